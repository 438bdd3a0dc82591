/-! T: fields and arrays, what the machine does -/
theorem tSd.stepG {E : tM} {pc pc1 : Nat} {lt lt1 : List (Nat × Nat)} {ts ts1 : List Nat} {B K : tB} (hK : tSd E pc1 lt1 ts1 K)
    (hf : ∀ (L S : List Int) (h : tH) (r : tN), B L S h = some r → S.length = ts.length → L.length = tM.nL E →
      ∃ (L1 S1 : List Int) (h1 : tH), K L1 S1 h1 = some r ∧ S1.length = ts1.length ∧ L1.length = tM.nL E ∧ h.2.2.2.1 ≤ h1.2.2.2.1 ∧ h.2.2.2.2 ≤ h1.2.2.2.2 ∧
        ∀ (p : Program) (l : Launch) (e : Env) (R : Room) (s : State) (m : MethodId) (args : Array Value) (below : List Frame) (meth : Method) (c : Code) (n0 u0 : Int) (fin : (Bool × Int) × tH), tC E l p R s m args meth c → n0 ≤ h.2.2.2.1 → u0 ≤ h.2.2.2.2 → h1.2.2.2.1 ≤ fin.2.2.2.2.1 → h1.2.2.2.2 ≤ fin.2.2.2.2.2 → R.cells = (fin.2.2.2.2.1 - n0).toNat → R.slots = (fin.2.2.2.2.2 - u0).toNat →
          tW E p l e R s m args below meth c n0 u0 fin pc1 lt1 ts1 L1 S1 h1 → tW E p l e R s m args below meth c n0 u0 fin pc lt ts L S h) : tSd E pc lt ts B := by
  intro L S h r hB hS hL
  obtain ⟨L1, S1, h1, k1, k2, k3, k5, k6, k4⟩ := hf L S h r hB hS hL
  obtain ⟨m1, w1⟩ := hK L1 S1 h1 r k1 k2 k3
  refine ⟨⟨Int.le_trans k5 m1.1, Int.le_trans k6 m1.2.1, m1.2.2⟩, fun p l e R s m args below meth c n0 u0 fin hC a1 a2 a3 a4 a5 a6 a7 a8 => ?_⟩
  exact k4 p l e R s m args below meth c n0 u0 fin hC a1 a2 (Int.le_trans m1.1 a3) (Int.le_trans m1.2.1 a4) a5 a6 (w1 p l e R s m args below meth c n0 u0 fin hC (Int.le_trans a1 k5) (Int.le_trans a2 k6) a3 a4 a5 a6 a7 a8)
theorem tOK.kept {D : tD} {h h' : tH} {a : Nat} {H H' : Heap} (h1 : tOK D h a H) (e1 : h'.1.1 ((a : Int) + 1) = h.1.1 ((a : Int) + 1)) (e1' : h'.1.2 ((a : Int) + 1) = h.1.2 ((a : Int) + 1)) (e2 : h'.2.1 ((a : Int) + 1) = h.2.1 ((a : Int) + 1)) (e3 : h'.2.2.1 ((a : Int) + 1) = h.2.2.1 ((a : Int) + 1)) (e4 : H'[a]? = H[a]?) : tOK D h' a H' := by
  refine ⟨fun c q hc hq => ?_, fun k ty hk hy => ?_⟩
  · rw [e3] at hc
    rw [e1]
    exact (h1.1 c q hc hq).kept e4
  · rw [e3] at hk
    rw [e1', e2, e4]
    exact h1.2 k ty hk hy
/-- one cell is written -/
theorem tR.put {D : tD} {b0 : Nat} {h : tH} {H H' : Heap} {a : Nat} {k v : Int} (hR : tR D b0 h H) (hz : H'.size = H.size) (ho : ∀ q : Nat, q ≠ a → H'[q]? = H[q]?) (ha : tOK D (tPut h ((a : Int) + 1) k v) a H') : tR D b0 (tPut h ((a : Int) + 1) k v) H' := by
  refine ⟨by rw [hz]; exact hR.1, fun p hp => ?_, fun j => by show (if (0 : Int) = (a : Int) + 1 ∧ (j : Int) = k then v else h.1.1 0 j) = _; rw [if_neg (fun z => by have := z.1; omega)]; exact hR.2.2 j⟩
  obtain ⟨b, h1, h2, h3, h4⟩ := hR.2.1 p hp
  refine ⟨b, h1, by rw [hz]; exact h2, h3, ?_⟩
  by_cases hb : b = a
  · rw [hb]; exact ha
  · refine h4.kept ?_ rfl rfl rfl (ho b hb)
    funext j
    have hne : ¬ ((b : Int) + 1 = (a : Int) + 1 ∧ j = k) := fun q => hb (by omega)
    show (if (b : Int) + 1 = (a : Int) + 1 ∧ j = k then v else h.1.1 ((b : Int) + 1) j) = _
    rw [if_neg hne]
theorem tR.putA {D : tD} {b0 : Nat} {h : tH} {H H' : Heap} {a : Nat} {k v : Int} (hR : tR D b0 h H) (hz : H'.size = H.size) (ho : ∀ q : Nat, q ≠ a → H'[q]? = H[q]?) (ha : tOK D (tPutA h ((a : Int) + 1) k v) a H') : tR D b0 (tPutA h ((a : Int) + 1) k v) H' := by
  refine ⟨by rw [hz]; exact hR.1, fun p hp => ?_, hR.2.2⟩
  obtain ⟨b, h1, h2, h3, h4⟩ := hR.2.1 p hp
  refine ⟨b, h1, by rw [hz]; exact h2, h3, ?_⟩
  by_cases hb : b = a
  · rw [hb]; exact ha
  · refine h4.kept rfl ?_ rfl rfl (ho b hb)
    funext j
    have hne : ¬ ((b : Int) + 1 = (a : Int) + 1 ∧ j = k) := fun q => hb (by omega)
    show (if (b : Int) + 1 = (a : Int) + 1 ∧ j = k then v else h.1.2 ((b : Int) + 1) j) = _
    rw [if_neg hne]
theorem va_S.put1 {A : Nat → Prop} {H0 H H1 : Heap} {locs : List Loc} {a i : Nat} (h : va_S A H0 H locs) (z : H1.size = H.size) (o : ∀ q : Nat, q ≠ a → H1[q]? = H[q]?) (ha : A a) : va_S A H0 H1 (locs ++ [⟨a, i⟩]) := by
  refine ⟨by rw [z]; exact h.1, fun q hq hA => ?_, fun l hl => ?_⟩
  · rw [o q (fun e => hA (e ▸ ha))]; exact h.2.1 q hq hA
  · rcases List.mem_append.mp hl with hl | hl
    · exact h.2.2 l hl
    · rw [List.mem_singleton] at hl
      subst hl
      exact ha
section TF
variable {E : tM} {pc : Nat} {lt : List (Nat × Nat)} {ts : List Nat} {K : tB}
theorem o_getf_some {c k : Nat} {L S : List Int} {h : tH} {r : tN} (hB : o_getf c k K L S h = some r) : ∃ p S', S = p :: S' ∧ h.2.2.1 p = c ∧ K L (h.1.1 p k :: S') h = some r := by
  match S, hB with
  | [], hB => cases hB
  | p :: S', hB =>
    unfold o_getf at hB
    simp only at hB
    split at hB
    · exact ⟨p, S', rfl, ‹_›, hB⟩
    · cases hB
theorem o_putf_some {c k : Nat} {L S : List Int} {h : tH} {r : tN} (hB : o_putf c k K L S h = some r) : ∃ v p S', S = v :: p :: S' ∧ h.2.2.1 p = c ∧ okF (xty c k) v = true ∧ K L S' (tPut h p k v) = some r := by
  match S, hB with
  | [], hB => cases hB
  | [a], hB => cases hB
  | v :: p :: S', hB =>
    unfold o_putf at hB
    simp only at hB
    split at hB
    · rename_i hq
      exact ⟨v, p, S', rfl, hq.1, hq.2, hB⟩
    · cases hB
/-- what a class's words give of a field -/
theorem t_same {args : Array Value} {s : State} {ref owner name desc : String} (hs : ref = owner ∨ (Cond.sameField ref owner name desc).before args s = true) (x : ClassId × Class × Nat × Field) (ho : s.fieldFound? owner name desc = some x) : s.fieldFound? ref name desc = some x := by
  rcases hs with rfl | hs
  · exact ho
  · exact u_same hs x ho
theorem s_getf (c k : Nat) {q : vw_C} {idx : Nat} {ref : String} (kd : Nat) (hd : decode (tM.cc E) pc = .ok (.getfield idx, 3)) (hc : xcl c = some q) (hc9 : c < 3000) (hk : k < q.2.2) (hq : Cond.fieldLink (tM.own E) idx ref (q.2.1 k).2.1 (q.2.1 k).2.2.1 ∈ lw_all) (hs : ref = (q.2.1 k).1 ∨ Cond.sameField ref (q.2.1 k).1 (q.2.1 k).2.1 (q.2.1 k).2.2.1 ∈ lw_all) (hkd : kdF (xty c k) = kd) (hK : tSd E (pc + 3) lt (kd :: ts) K) : tSd E pc lt (2 :: ts) (o_getf c k K) :=
  hK.step fun L S h r hB hS hL => by
    obtain ⟨p, S', rfl, hp, hB⟩ := o_getf_some hB
    refine ⟨L, _, hB, by simpa using hS, hL, fun pr l e R s m args below meth cd n0 u0 fin hC hW ls H locs h1 h2 h3 => ?_⟩
    obtain ⟨a, rfl, ha, cell, q1, q2, q3, q4⟩ := h2.objO hc9 hp hc
    have hw := hW ls H locs h1 h2 h3
    obtain ⟨hin, hnm, hty⟩ := xcl_ok c q hc
    obtain ⟨hSl, hfc, kC, hkC, hkind⟩ := hC.2.2.2.2.2.1.1 c q hc
    obtain ⟨cf, kf, fi, f, hi, hsl⟩ := hSl k hk
    have hts := hC.2.2.2.2.1
    rw [tSt_cons, tE_ptr]
    refine W.getf hC.1 hC.2.1 hC.2.2.2.1 (hts _ hq) (t_same (hs.imp id (fun z => hts _ z)) _ hi) (u_facts hfc hkC (u_lays hts hin hk) hi).1 q1 (by rw [q3]; exact fun h => by cases h) (v := tE kd (h.1.1 ((a : Int) + 1) k)) ?_ rfl rfl hd hw
    rw [hsl, q4 k hk]
    show some (tE (kdF (xty c k)) _) = _
    rw [hkd]
theorem t_apart {D : tD} {s : State} {args : Array Value} (hts : ∀ w ∈ lw_all, w.before args s = true) (hK : tK D s) {c : Nat} {q : vw_C} (hc : xcl c = some q) : ∀ x y, x < q.2.2 → y < q.2.2 → x ≠ y → D.2.1 c x ≠ D.2.1 c y := by
  intro x y hx hy hne
  obtain ⟨hin, hnm, hty⟩ := xcl_ok c q hc
  obtain ⟨hS, -⟩ := hK.1 c q hc
  obtain ⟨_, _, _, fa, hia, ea⟩ := hS x hx
  obtain ⟨_, _, _, fb, hib, eb⟩ := hS y hy
  rw [← ea, ← eb]
  refine u_apart (u_lays hts hin hx) (u_lays hts hin hy) hia hib ?_
  rw [(State.fieldFound?_type hia (hty x hx)).1, (State.fieldFound?_type hib (hty y hy)).1]
  exact hnm x hx y hy hne
theorem t_putOK {D : tD} {h : tH} {a c k : Nat} {v : Int} {q : vw_C} {H' : Heap} (hc9 : c < 1000) (hp : h.2.2.1 ((a : Int) + 1) = c) (hc : xcl c = some q) (hob : t_OB a (D.1 c) q.2.2 (D.2.1 c) H' (updV (fun k => tE (kdF (xty c k)) (h.1.1 ((a : Int) + 1) k)) k (tE (kdF (xty c k)) v))) : tOK D (tPut h ((a : Int) + 1) k v) a H' := by
  refine ⟨fun c' q' hc' hq' => ?_, fun k' ty hk' hy => ?_⟩
  · have e1 : c = c' := hp.symm.trans hc'
    subst e1
    have e2 : q = q' := Option.some.inj (hc.symm.trans hq')
    subst e2
    refine hob.to fun j hj => ?_
    show updV _ k _ j = tE (kdF (xty c j)) (if (a : Int) + 1 = (a : Int) + 1 ∧ (j : Int) = (k : Int) then v else h.1.1 ((a : Int) + 1) j)
    by_cases hjk : j = k
    · subst hjk
      simp [updV]
    · have hne : ¬ ((j : Int) = (k : Int)) := fun z => hjk (by omega)
      simp [updV, hjk, hne]
  · have e1 : h.2.2.1 ((a : Int) + 1) = 1000 + k' := hk'
    omega
theorem s_putf (c k : Nat) {q : vw_C} {idx : Nat} {ref : String} (kd : Nat) (hd : decode (tM.cc E) pc = .ok (.putfield idx, 3)) (hc : xcl c = some q) (hc9 : c < 1000) (hk : k < q.2.2) (hq : Cond.fieldLink (tM.own E) idx ref (q.2.1 k).2.1 (q.2.1 k).2.2.1 ∈ lw_all) (hs : ref = (q.2.1 k).1 ∨ Cond.sameField ref (q.2.1 k).1 (q.2.1 k).2.1 (q.2.1 k).2.2.1 ∈ lw_all) (hfin : (q.2.1 k).2.2.2 = false ∨ ((q.2.1 k).2.2.2 = true ∧ tM.ini E = true ∧ (q.2.1 k).1 = tM.own E)) (hkd : kdF (xty c k) = kd) (hK : tSd E (pc + 3) lt ts K) : tSd E pc lt (kd :: 2 :: ts) (o_putf c k K) :=
  hK.stepG fun L S h r hB hS hL => by
    obtain ⟨v, p, S', rfl, hp, hv, hB⟩ := o_putf_some hB
    refine ⟨L, S', tPut h p k v, hB, by simpa using hS, hL, Int.le_refl _, Int.le_refl _, fun pr l e R s m args below meth cd n0 u0 fin hC _ _ _ _ _ _ hW ls H locs h1 h2 h3 => ?_⟩
    obtain ⟨a, rfl, ha, hb, cell, q1, q2, q3, q4⟩ := h2.obj hc9 hp hc
    obtain ⟨hin, hnm, hty⟩ := xcl_ok c q hc
    obtain ⟨hSl, hfc, kC, hkC, hkind⟩ := hC.2.2.2.2.2.1.1 c q hc
    obtain ⟨cf, kf, fi, f, hi, hsl⟩ := hSl k hk
    have hts := hC.2.2.2.2.1
    have hap := t_apart hts hC.2.2.2.2.2.1 hc
    have hst := (u_facts hfc hkC (u_lays hts hin hk) hi).1
    obtain ⟨v1, v2⟩ := okF_spec hv
    have hlay := hts _ (hin _ (u_in_lay hk))
    unfold u_lay at hlay
    have hsame := t_same (hs.imp id (fun z => hts _ z)) _ hi
    have key : ∀ H' : Heap, H'[a]? = some (cell.setSlot f.slot (tE (kdF (xty c k)) v)) → H'.size = H.size → (∀ q, q ≠ a → H'[q]? = H[q]?) → W pr l e R s m args below meth cd H' (locs ++ [⟨a, f.slot⟩]) (h.2.2.2.1 - n0).toNat (h.2.2.2.2 - u0).toNat (tQ (tM.D E) (tM.b0 E) (tM.rt E) below s n0 u0 fin) (F0 m (pc + 3) ls (tSt ts S')) := by
      intro H' e1 e2 e3
      rw [hsl] at e1
      exact hW ls H' _ h1 (h2.put e2 e3 (t_putOK hc9 hp hc ⟨_, e1, q2, q3, t_set q4 hap hk _⟩)) (va_S.put1 h3 e2 e3 hb)
    rw [tSt_cons, tSt_cons, tE_ptr, ← hkd]
    rcases hfin with hfin | ⟨hf1, hf2, hf3⟩
    · rw [if_neg (by rw [hfin]; decide)] at hlay
      have h6 := u_store hfc hkC hkind hlay hi (hty k hk) v1 v2
      exact W.putK hC.1 hC.2.1 (f := f) ⟨hC.2.2.2.1, hts _ hq, ⟨_, _, _, hsame⟩, hst⟩ (by rw [q2]; exact h6) q1 q3 (by rw [hsl]; exact k2_hasslot (q4 k hk)) rfl rfl hd key
    · rw [if_pos hf1] at hlay
      have hcf : m.cls = cf := by
        obtain ⟨_, _, c', _, _, _, -, -, hf', -, -, -, hown2, -⟩ := Cond.laysFinal_spec hlay
        have e1 : c' = cf := by have := hi.symm.trans hf'; simp at this; exact this.1.symm
        rw [hf3] at hown2
        rw [← e1]; exact Option.some.inj (hC.2.2.2.1.symm.trans hown2)
      have h6 := u_fits hfc hkC hkind (Or.inr hlay) hi (hty k hk) v1 v2
      exact W.putFinK hC.1 hC.2.1 hC.2.2.2.1 (hts _ hq) hsame hst hcf (hC.2.2.2.2.2.2.2.2.2.2.2.1 hf2) (by rw [q2]; exact h6) q1 q3 (by rw [hsl]; exact k2_hasslot (q4 k hk)) rfl rfl hd key
end TF
