/-! W: runs without fuel; what a block needs, as a predicate -/
theorem tRun_mono {Bk : Nat → tB} : ∀ (n m pc : Nat) (L S : List Int) (h : tH) (x : (Bool × Int) × tH), tRun Bk n pc L S h = some x → n ≤ m → tRun Bk m pc L S h = some x := by
  intro n
  induction n with
  | zero => intro m pc L S h x hx; cases hx
  | succ n ih =>
    intro m pc L S h x hx hm
    obtain ⟨k, rfl⟩ : ∃ k, m = k + 1 := ⟨m - 1, by omega⟩
    unfold tRun at hx ⊢
    cases hB : Bk pc L S h with
    | none => rw [hB] at hx; cases hx
    | some r =>
      rw [hB] at hx
      cases r with
      | inl y => exact ih k _ _ _ _ x hx (by omega)
      | inr y => exact hx
noncomputable def tLim (G : Nat → tFn) : tFn := fun as h => @dite _ (∃ x, ∃ n, G n as h = some x) (Classical.propDecidable _) (fun hx => some (Classical.choose hx)) (fun _ => none)
theorem tLim_ex {G : Nat → tFn} {as : List Int} {h : tH} {x : (Bool × Int) × tH} (hx : tLim G as h = some x) : ∃ n, G n as h = some x := by
  unfold tLim at hx
  split at hx
  · rename_i hy
    have := Classical.choose_spec hy
    rw [Option.some.inj hx] at this
    exact this
  · cases hx
theorem tMX.lim {D : tD} {b0 : Nat} {y : MethodName} {ws : List Cond} {rt : Option FieldType} {ks : List Nat} {fr lo : Nat} {G : Nat → tFn} (hG : ∀ n, tMX D b0 y ws rt ks fr lo (G n)) : tMX D b0 y ws rt ks fr lo (tLim G) := by
  intro l as h o h' hF hla
  obtain ⟨n, hn⟩ := tLim_ex hF
  exact hG n l as h o h' hn hla
theorem tLim_run {ks : List Nat} {nL : Nat} {Bk : Nat → tB} {n : Nat} {as : List Int} {h : tH} {x : (Bool × Int) × tH} (hx : tFun ks nL Bk n as h = some x) : tLim (tFun ks nL Bk) as h = some x := by
  have hy : ∃ x, ∃ n, tFun ks nL Bk n as h = some x := ⟨x, n, hx⟩
  unfold tLim
  rw [dif_pos hy]
  obtain ⟨m, hm⟩ := Classical.choose_spec hy
  have h1 := tRun_mono n (n + m) _ _ _ _ _ hx (by omega)
  have h2 := tRun_mono m (n + m) _ _ _ _ _ hm (by omega)
  rw [h1] at h2
  exact h2.symm
abbrev tJ : Type := Nat → List Int → List Int → tH → Prop
abbrev tQ2 : Type := Bool × Int → tH → Prop
abbrev tP : Type := List Int → List Int → tH → tJ → tQ2 → Prop
def pEnd (J : tJ) (R : tQ2) (r : tN) : Prop := match r with
  | .inl x => J x.1 x.2.1 x.2.2.1 x.2.2.2
  | .inr x => R x.1 x.2
def pOK (B : tB) (P : tP) : Prop := ∀ (L S : List Int) (h : tH) (J : tJ) (R : tQ2), P L S h J R → ∃ r, B L S h = some r ∧ pEnd J R r
abbrev tX : Type := { x : tB × tP // pOK x.1 x.2 }
def wR (Bk : Nat → tX) (pc : Nat) (L S : List Int) (h : tH) (R : tQ2) : Prop := ∃ n fin, tRun (fun k => (Bk k).1.1) n pc L S h = some fin ∧ R fin.1 fin.2
def wF (F : tFn) (as : List Int) (h : tH) (R : tQ2) : Prop := ∃ fin, F as h = some fin ∧ R fin.1 fin.2
def wN (F : tFn) (as : List Int) (h : tH) (Q : Int → tH → Prop) : Prop := ∃ v h', F as h = some ((false, v), h') ∧ Q v h'
theorem wR.step {Bk : Nat → tX} {pc : Nat} {L S : List Int} {h : tH} {R : tQ2} (H : (Bk pc).1.2 L S h (fun pc' L' S' h' => wR Bk pc' L' S' h' R) R) : wR Bk pc L S h R := by
  obtain ⟨r, h1, h2⟩ := (Bk pc).2 L S h _ _ H
  cases r with
  | inl x =>
    obtain ⟨n, fin, h3, h4⟩ := h2
    refine ⟨n + 1, fin, ?_, h4⟩
    unfold tRun
    simp only [h1]
    exact h3
  | inr x =>
    refine ⟨1, x, ?_, h2⟩
    unfold tRun
    simp only [h1]
noncomputable def tFN (ks : List Nat) (nL : Nat) (Bk : Nat → tX) : tFn := tLim (tFun ks nL fun k => (Bk k).1.1)
theorem wF.of {ks : List Nat} {nL : Nat} {Bk : Nat → tX} {as : List Int} {h : tH} {R : tQ2} (H : wR Bk 0 (tLoc ks as ++ List.replicate (nL - (tLoc ks as).length) 0) [] h R) : wF (tFN ks nL Bk) as h R := by
  obtain ⟨n, fin, h1, h2⟩ := H
  exact ⟨fin, tLim_run (n := n) h1, h2⟩
/-- a post that asks for a plain return -/
def rN (Q : Int → tH → Prop) : tQ2 := fun o h => o.1 = false ∧ Q o.2 h
theorem wN.of {ks : List Nat} {nL : Nat} {Bk : Nat → tX} {as : List Int} {h : tH} {Q : Int → tH → Prop} (H : wR Bk 0 (tLoc ks as ++ List.replicate (nL - (tLoc ks as).length) 0) [] h (rN Q)) : wN (tFN ks nL Bk) as h Q := by
  obtain ⟨⟨⟨b, v⟩, h'⟩, h1, h2, h3⟩ := wF.of H
  have : b = false := h2
  subst this
  exact ⟨v, h', h1, h3⟩
theorem wN.mono {F : tFn} {as : List Int} {h : tH} {Q Q' : Int → tH → Prop} (H : wN F as h Q) (hq : ∀ v h', Q v h' → Q' v h') : wN F as h Q' := by
  obtain ⟨v, h', h1, h2⟩ := H
  exact ⟨v, h', h1, hq v h' h2⟩
theorem wF.mono {F : tFn} {as : List Int} {h : tH} {Q Q' : tQ2} (H : wF F as h Q) (hq : ∀ o h', Q o h' → Q' o h') : wF F as h Q' := by
  obtain ⟨fin, h1, h2⟩ := H
  exact ⟨fin, h1, hq _ _ h2⟩
theorem wN.toF {F : tFn} {as : List Int} {h : tH} {Q : Int → tH → Prop} (H : wN F as h Q) : wF F as h (rN Q) := by
  obtain ⟨v, h', h1, h2⟩ := H
  exact ⟨((false, v), h'), h1, rfl, h2⟩
theorem wR.mono {Bk : Nat → tX} {pc : Nat} {L S : List Int} {h : tH} {R R' : tQ2} (H : wR Bk pc L S h R) (hq : ∀ o h', R o h' → R' o h') : wR Bk pc L S h R' := by
  obtain ⟨n, fin, h1, h2⟩ := H
  exact ⟨n, fin, h1, hq _ _ h2⟩
/-- a summary: guard, value, heap -/
def tZ (F : tFn) (fg : List Int → tH → Prop) (fv : List Int → tH → Int) (fh : List Int → tH → tH) : Prop := ∀ as h, fg as h → F as h = some ((false, fv as h), fh as h)
/-! the operations, both ways -/
def mx_push (x : Int) (K : tX) : tX := ⟨(o_push x K.1.1, fun L S h J R => K.1.2 L (x :: S) h J R), fun L S h J R H => K.2 _ _ _ _ _ H⟩
def mx_load (k : Nat) (K : tX) : tX := ⟨(o_load k K.1.1, fun L S h J R => K.1.2 L (L.getD k 0 :: S) h J R), fun L S h J R H => K.2 _ _ _ _ _ H⟩
def mx_store (k : Nat) (K : tX) : tX := ⟨(o_store k K.1.1, fun L S h J R => match S with
  | x :: S' => K.1.2 (L.set k x) S' h J R
  | [] => False), fun L S h J R H => match S, H with
  | x :: S', H => K.2 _ _ _ _ _ H⟩
def mx_iinc (k : Nat) (n : Int) (K : tX) : tX := ⟨(o_iinc k n K.1.1, fun L S h J R => K.1.2 (L.set k (L.getD k 0 + n)) S h J R), fun L S h J R H => K.2 _ _ _ _ _ H⟩
def mx_bin (f : Int → Int → Int) (K : tX) : tX := ⟨(o_bin f K.1.1, fun L S h J R => match S with
  | y :: x :: S' => K.1.2 L (f x y :: S') h J R
  | _ => False), fun L S h J R H => match S, H with
  | y :: x :: S', H => K.2 _ _ _ _ _ H⟩
def mx_un (f : Int → Int) (K : tX) : tX := ⟨(o_un f K.1.1, fun L S h J R => match S with
  | x :: S' => K.1.2 L (f x :: S') h J R
  | _ => False), fun L S h J R H => match S, H with
  | x :: S', H => K.2 _ _ _ _ _ H⟩
def mx_binG (g : Int → Int → Bool) (G : Int → Int → Prop) (hg : ∀ x y, G x y → g x y = true) (f : Int → Int → Int) (K : tX) : tX := ⟨(o_binG g f K.1.1, fun L S h J R => match S with
  | y :: x :: S' => G x y ∧ K.1.2 L (f x y :: S') h J R
  | _ => False), fun L S h J R H => match S, H with
  | y :: x :: S', H => by
    obtain ⟨r, h1, h2⟩ := K.2 _ _ _ _ _ H.2
    refine ⟨r, ?_, h2⟩
    show (if g x y = true then _ else _) = _
    rw [if_pos (hg x y H.1)]
    exact h1⟩
def mx_unG (g : Int → Bool) (G : Int → Prop) (hg : ∀ x, G x → g x = true) (f : Int → Int) (K : tX) : tX := ⟨(o_unG g f K.1.1, fun L S h J R => match S with
  | x :: S' => G x ∧ K.1.2 L (f x :: S') h J R
  | _ => False), fun L S h J R H => match S, H with
  | x :: S', H => by
    obtain ⟨r, h1, h2⟩ := K.2 _ _ _ _ _ H.2
    refine ⟨r, ?_, h2⟩
    show (if g x = true then _ else _) = _
    rw [if_pos (hg x H.1)]
    exact h1⟩
theorem pIf {c : Prop} [Decidable c] {B : Option tN} {P : tN → Prop} (hc : c) (H : ∃ r, B = some r ∧ P r) : ∃ r, (if c then B else none) = some r ∧ P r := by
  rw [if_pos hc]
  exact H
def mx_go (pc : Nat) : tX := ⟨(o_go pc, fun L S h J _ => J pc L S h), fun L S h J R H => ⟨_, rfl, H⟩⟩
def mx_if2 (g f : Int → Int → Bool) (G C : Int → Int → Prop) (hg : ∀ x y, G x y → g x y = true) (hf : ∀ x y, f x y = true ↔ C x y) (KT KF : tX) : tX := ⟨(o_if2 g f KT.1.1 KF.1.1, fun L S h J R => match S with
  | y :: x :: S' => G x y ∧ (C x y → KT.1.2 L S' h J R) ∧ (¬ C x y → KF.1.2 L S' h J R)
  | _ => False), fun L S h J R H => match S, H with
  | y :: x :: S', H => by
    show ∃ r, (if g x y = true then (if f x y = true then KT.1.1 L S' h else KF.1.1 L S' h) else none) = some r ∧ _
    rw [if_pos (hg x y H.1)]
    by_cases hc : f x y = true
    · rw [if_pos hc]
      exact KT.2 _ _ _ _ _ (H.2.1 ((hf x y).mp hc))
    · rw [if_neg hc]
      exact KF.2 _ _ _ _ _ (H.2.2 fun z => hc ((hf x y).mpr z))⟩
def mx_if1 (f : Int → Bool) (C : Int → Prop) (hf : ∀ x, f x = true ↔ C x) (KT KF : tX) : tX := ⟨(o_if1 f KT.1.1 KF.1.1, fun L S h J R => match S with
  | x :: S' => (C x → KT.1.2 L S' h J R) ∧ (¬ C x → KF.1.2 L S' h J R)
  | _ => False), fun L S h J R H => match S, H with
  | x :: S', H => by
    show ∃ r, (if f x = true then KT.1.1 L S' h else KF.1.1 L S' h) = some r ∧ _
    by_cases hc : f x = true
    · rw [if_pos hc]
      exact KT.2 _ _ _ _ _ (H.1 ((hf x).mp hc))
    · rw [if_neg hc]
      exact KF.2 _ _ _ _ _ (H.2 fun z => hc ((hf x).mpr z))⟩
def mx_dup (K : tX) : tX := ⟨(o_dup K.1.1, fun L S h J R => match S with
  | x :: S' => K.1.2 L (x :: x :: S') h J R
  | _ => False), fun L S h J R H => match S, H with
  | x :: S', H => K.2 _ _ _ _ _ H⟩
def mx_dup2 (K : tX) : tX := ⟨(o_dup2 K.1.1, fun L S h J R => match S with
  | y :: x :: S' => K.1.2 L (y :: x :: y :: x :: S') h J R
  | _ => False), fun L S h J R H => match S, H with
  | y :: x :: S', H => K.2 _ _ _ _ _ H⟩
def mx_pop (K : tX) : tX := ⟨(o_pop K.1.1, fun L S h J R => match S with
  | _ :: S' => K.1.2 L S' h J R
  | _ => False), fun L S h J R H => match S, H with
  | _ :: S', H => K.2 _ _ _ _ _ H⟩
def mx_ret : tX := ⟨(o_ret, fun _ S h _ R => match S with
  | x :: _ => R (false, x) h
  | _ => False), fun L S h J R H => match S, H with
  | x :: S', H => ⟨_, rfl, H⟩⟩
def mx_retv : tX := ⟨(o_retv, fun _ _ h _ R => R (false, 0) h), fun L S h J R H => ⟨_, rfl, H⟩⟩
def mx_retz : tX := ⟨(o_retz, fun _ S h _ R => match S with
  | x :: _ => (x = 0 ∨ x = 1) ∧ R (false, x) h
  | _ => False), fun L S h J R H => match S, H with
  | x :: S', H => pIf H.1 ⟨.inr ((false, x), h), rfl, H.2⟩⟩
def mx_none : tX := ⟨(fun _ _ _ => none, fun _ _ _ _ _ => False), fun L S h J R H => False.elim H⟩
def mx_getf (c k : Nat) (K : tX) : tX := ⟨(o_getf c k K.1.1, fun L S h J R => match S with
  | p :: S' => h.2.2.1 p = c ∧ K.1.2 L (h.1.1 p k :: S') h J R
  | _ => False), fun L S h J R H => match S, H with
  | p :: S', H => pIf H.1 (K.2 _ _ _ _ _ H.2)⟩
def mx_putf (c k : Nat) (hok : ∀ v, okF (xty c k) v = true) (K : tX) : tX := ⟨(o_putf c k K.1.1, fun L S h J R => match S with
  | v :: p :: S' => h.2.2.1 p = c ∧ K.1.2 L S' (tPut h p k v) J R
  | _ => False), fun L S h J R H => match S, H with
  | v :: p :: S', H => pIf ⟨H.1, hok v⟩ (K.2 _ _ _ _ _ H.2)⟩
def mx_putfz (c k : Nat) (hok : ∀ v, (v = 0 ∨ v = 1) → okF (xty c k) v = true) (K : tX) : tX := ⟨(o_putf c k K.1.1, fun L S h J R => match S with
  | v :: p :: S' => (h.2.2.1 p = c ∧ (v = 0 ∨ v = 1)) ∧ K.1.2 L S' (tPut h p k v) J R
  | _ => False), fun L S h J R H => match S, H with
  | v :: p :: S', H => pIf ⟨H.1.1, hok v H.1.2⟩ (K.2 _ _ _ _ _ H.2)⟩
def mx_ald (t : Nat) (K : tX) : tX := ⟨(o_ald t K.1.1, fun L S h J R => match S with
  | i :: p :: S' => (h.2.2.1 p = 1000 + t ∧ 0 ≤ i ∧ i < h.2.1 p) ∧ K.1.2 L (h.1.2 p i :: S') h J R
  | _ => False), fun L S h J R H => match S, H with
  | i :: p :: S', H => pIf H.1 (K.2 _ _ _ _ _ H.2)⟩
def mx_ast (t : Nat) (ok : tH → Int → Bool) (hok : ∀ h v, ok h v = true) (K : tX) : tX := ⟨(o_ast t ok K.1.1, fun L S h J R => match S with
  | v :: i :: p :: S' => (h.2.2.1 p = 1000 + t ∧ 0 ≤ i ∧ i < h.2.1 p) ∧ K.1.2 L S' (tPutA h p i v) J R
  | _ => False), fun L S h J R H => match S, H with
  | v :: i :: p :: S', H => pIf ⟨H.1.1, H.1.2.1, H.1.2.2, hok h v⟩ (K.2 _ _ _ _ _ H.2)⟩
def mx_astG (t : Nat) (ok : tH → Int → Bool) (G : tH → Int → Prop) (hok : ∀ h v, G h v → ok h v = true) (K : tX) : tX := ⟨(o_ast t ok K.1.1, fun L S h J R => match S with
  | v :: i :: p :: S' => (h.2.2.1 p = 1000 + t ∧ 0 ≤ i ∧ i < h.2.1 p) ∧ G h v ∧ K.1.2 L S' (tPutA h p i v) J R
  | _ => False), fun L S h J R H => match S, H with
  | v :: i :: p :: S', H => pIf ⟨H.1.1, H.1.2.1, H.1.2.2, hok h v H.2.1⟩ (K.2 _ _ _ _ _ H.2.2)⟩
def mx_alen (t : Nat) (K : tX) : tX := ⟨(o_alen t K.1.1, fun L S h J R => match S with
  | p :: S' => h.2.2.1 p = 1000 + t ∧ K.1.2 L (h.2.1 p :: S') h J R
  | _ => False), fun L S h J R H => match S, H with
  | p :: S', H => pIf H.1 (K.2 _ _ _ _ _ H.2)⟩
def mx_new (c : Nat) (n : Int) (K : tX) : tX := ⟨(o_new c n K.1.1, fun L S h J R => K.1.2 L (h.2.2.2.1 :: S) (tNew h c 0 n) J R), fun L S h J R H => K.2 _ _ _ _ _ H⟩
def mx_newa (t : Nat) (K : tX) : tX := ⟨(o_newa t K.1.1, fun L S h J R => match S with
  | n :: S' => (0 ≤ n ∧ n ≤ 67108864) ∧ K.1.2 L (h.2.2.2.1 :: S') (tNew h (1000 + t) n n) J R
  | _ => False), fun L S h J R H => match S, H with
  | n :: S', H => pIf H.1 (K.2 _ _ _ _ _ H.2)⟩
def mx_cast (et : Nat) (K : tX) : tX := ⟨(o_cast et K.1.1, fun L S h J R => match S with
  | p :: S' => h.2.2.1 p = et ∧ K.1.2 L (p :: S') h J R
  | _ => False), fun L S h J R H => match S, H with
  | p :: S', H => pIf H.1 (K.2 _ _ _ _ _ H.2)⟩
def mx_obj (K : tX) : tX := ⟨(o_obj K.1.1, fun L S h J R => match S with
  | p :: S' => h.2.2.1 p < 1000 ∧ K.1.2 L S' h J R
  | _ => False), fun L S h J R H => match S, H with
  | p :: S', H => pIf H.1 (K.2 _ _ _ _ _ H.2)⟩
def mx_throw : tX := ⟨(o_throw, fun _ S h _ R => match S with
  | p :: _ => h.2.2.1 p < 1000 ∧ R (true, p) h
  | _ => False), fun L S h J R H => match S, H with
  | p :: S', H => pIf H.1 ⟨_, rfl, H.2⟩⟩
theorem o_callN {F : tFn} {n : Nat} {rv : Bool} {K : tX} {L S : List Int} {h : tH} {J : tJ} {R : tQ2} (H : wN F (S.take n).reverse h (fun v h' => K.1.2 L (if rv = true then v :: S.drop n else S.drop n) h' J R)) : ∃ r, o_call F n rv K.1.1 L S h = some r ∧ pEnd J R r := by
  obtain ⟨v, h', h1, h2⟩ := H
  obtain ⟨r, h3, h4⟩ := K.2 _ _ _ _ _ h2
  refine ⟨r, ?_, h4⟩
  unfold o_call
  rw [h1]
  exact h3
theorem o_callF {F : tFn} {n : Nat} {rv : Bool} {K : tX} {L S : List Int} {h : tH} {J : tJ} {R : tQ2} (H : wF F (S.take n).reverse h (fun o h' => (o.1 = true → R o h') ∧ (o.1 = false → K.1.2 L (if rv = true then o.2 :: S.drop n else S.drop n) h' J R))) : ∃ r, o_call F n rv K.1.1 L S h = some r ∧ pEnd J R r := by
  obtain ⟨⟨⟨b, v⟩, h'⟩, h1, h2⟩ := H
  cases b with
  | false =>
    obtain ⟨r, h3, h4⟩ := K.2 _ _ _ _ _ (h2.2 rfl)
    refine ⟨r, ?_, h4⟩
    unfold o_call
    rw [h1]
    exact h3
  | true =>
    refine ⟨.inr ((true, v), h'), ?_, h2.1 rfl⟩
    unfold o_call
    rw [h1]
/-- calls: static and of objects; N: that returns; F: that may throw; Z: with a summary -/
def mx_callN (F : tFn) (n : Nat) (K : tX) : tX := ⟨(o_call F n true K.1.1, fun L S h J R => wN F (S.take n).reverse h (fun v h' => K.1.2 L (v :: S.drop n) h' J R)), fun L S h J R H => o_callN (rv := true) H⟩
def mx_callNv (F : tFn) (n : Nat) (K : tX) : tX := ⟨(o_call F n false K.1.1, fun L S h J R => wN F (S.take n).reverse h (fun _ h' => K.1.2 L (S.drop n) h' J R)), fun L S h J R H => o_callN (rv := false) H⟩
def mx_callF (F : tFn) (n : Nat) (K : tX) : tX := ⟨(o_call F n true K.1.1, fun L S h J R => wF F (S.take n).reverse h (fun o h' => (o.1 = true → R o h') ∧ (o.1 = false → K.1.2 L (o.2 :: S.drop n) h' J R))), fun L S h J R H => o_callF (rv := true) H⟩
def mx_callFv (F : tFn) (n : Nat) (K : tX) : tX := ⟨(o_call F n false K.1.1, fun L S h J R => wF F (S.take n).reverse h (fun o h' => (o.1 = true → R o h') ∧ (o.1 = false → K.1.2 L (S.drop n) h' J R))), fun L S h J R H => o_callF (rv := false) H⟩
def mx_callZ (F : tFn) {fg : List Int → tH → Prop} {fv : List Int → tH → Int} {fh : List Int → tH → tH} (hz : tZ F fg fv fh) (n : Nat) (K : tX) : tX := ⟨(o_call F n true K.1.1, fun L S h J R => fg (S.take n).reverse h ∧ K.1.2 L (fv (S.take n).reverse h :: S.drop n) (fh (S.take n).reverse h) J R), fun L S h J R H => o_callN (rv := true) ⟨_, _, hz _ _ H.1, H.2⟩⟩
def mx_callZv (F : tFn) {fg : List Int → tH → Prop} {fv : List Int → tH → Int} {fh : List Int → tH → tH} (hz : tZ F fg fv fh) (n : Nat) (K : tX) : tX := ⟨(o_call F n false K.1.1, fun L S h J R => fg (S.take n).reverse h ∧ K.1.2 L (S.drop n) (fh (S.take n).reverse h) J R), fun L S h J R H => o_callN (rv := false) ⟨_, _, hz _ _ H.1, H.2⟩⟩
def mv_callN (ct : Nat) (F : tFn) (n : Nat) (K : tX) : tX := ⟨(o_callv ct F n true K.1.1, fun L S h J R => h.2.2.1 (S.getD (n - 1) 0) = ct ∧ wN F (S.take n).reverse h (fun v h' => K.1.2 L (v :: S.drop n) h' J R)), fun L S h J R H => pIf H.1 (o_callN (rv := true) H.2)⟩
def mv_callNv (ct : Nat) (F : tFn) (n : Nat) (K : tX) : tX := ⟨(o_callv ct F n false K.1.1, fun L S h J R => h.2.2.1 (S.getD (n - 1) 0) = ct ∧ wN F (S.take n).reverse h (fun _ h' => K.1.2 L (S.drop n) h' J R)), fun L S h J R H => pIf H.1 (o_callN (rv := false) H.2)⟩
def mv_callF (ct : Nat) (F : tFn) (n : Nat) (K : tX) : tX := ⟨(o_callv ct F n true K.1.1, fun L S h J R => h.2.2.1 (S.getD (n - 1) 0) = ct ∧ wF F (S.take n).reverse h (fun o h' => (o.1 = true → R o h') ∧ (o.1 = false → K.1.2 L (o.2 :: S.drop n) h' J R))), fun L S h J R H => pIf H.1 (o_callF (rv := true) H.2)⟩
def mv_callFv (ct : Nat) (F : tFn) (n : Nat) (K : tX) : tX := ⟨(o_callv ct F n false K.1.1, fun L S h J R => h.2.2.1 (S.getD (n - 1) 0) = ct ∧ wF F (S.take n).reverse h (fun o h' => (o.1 = true → R o h') ∧ (o.1 = false → K.1.2 L (S.drop n) h' J R))), fun L S h J R H => pIf H.1 (o_callF (rv := false) H.2)⟩
def mv_callZ (ct : Nat) (F : tFn) {fg : List Int → tH → Prop} {fv : List Int → tH → Int} {fh : List Int → tH → tH} (hz : tZ F fg fv fh) (n : Nat) (K : tX) : tX := ⟨(o_callv ct F n true K.1.1, fun L S h J R => h.2.2.1 (S.getD (n - 1) 0) = ct ∧ fg (S.take n).reverse h ∧ K.1.2 L (fv (S.take n).reverse h :: S.drop n) (fh (S.take n).reverse h) J R), fun L S h J R H => pIf H.1 (o_callN (rv := true) ⟨_, _, hz _ _ H.2.1, H.2.2⟩)⟩
def mv_callZv (ct : Nat) (F : tFn) {fg : List Int → tH → Prop} {fv : List Int → tH → Int} {fh : List Int → tH → tH} (hz : tZ F fg fv fh) (n : Nat) (K : tX) : tX := ⟨(o_callv ct F n false K.1.1, fun L S h J R => h.2.2.1 (S.getD (n - 1) 0) = ct ∧ fg (S.take n).reverse h ∧ K.1.2 L (S.drop n) (fh (S.take n).reverse h) J R), fun L S h J R H => pIf H.1 (o_callN (rv := false) ⟨_, _, hz _ _ H.2.1, H.2.2⟩)⟩
/-! branches, by name -/
theorem g32b_ok (x y : Int) (h : i32 x ∧ i32 y) : g_32b x y = true := decide_eq_true h
theorem g64b_ok (x y : Int) (h : i64 x ∧ i64 y) : g_64b x y = true := decide_eq_true h
def mi_lt : tX → tX → tX := mx_if2 g_32b c_lt (fun x y => i32 x ∧ i32 y) (fun x y => x < y) g32b_ok (fun x y => decide_eq_true_iff)
def mi_le : tX → tX → tX := mx_if2 g_32b c_le (fun x y => i32 x ∧ i32 y) (fun x y => x ≤ y) g32b_ok (fun x y => decide_eq_true_iff)
def mi_gt : tX → tX → tX := mx_if2 g_32b c_gt (fun x y => i32 x ∧ i32 y) (fun x y => y < x) g32b_ok (fun x y => decide_eq_true_iff)
def mi_ge : tX → tX → tX := mx_if2 g_32b c_ge (fun x y => i32 x ∧ i32 y) (fun x y => y ≤ x) g32b_ok (fun x y => decide_eq_true_iff)
def mi_eq : tX → tX → tX := mx_if2 g_32b c_eq (fun x y => i32 x ∧ i32 y) (fun x y => x = y) g32b_ok (fun x y => decide_eq_true_iff)
def mi_ne : tX → tX → tX := mx_if2 g_32b c_ne (fun x y => i32 x ∧ i32 y) (fun x y => ¬ x = y) g32b_ok (fun x y => decide_eq_true_iff)
def ml_lt : tX → tX → tX := mx_if2 g_64b c_lt (fun x y => i64 x ∧ i64 y) (fun x y => x < y) g64b_ok (fun x y => decide_eq_true_iff)
def ml_le : tX → tX → tX := mx_if2 g_64b c_le (fun x y => i64 x ∧ i64 y) (fun x y => x ≤ y) g64b_ok (fun x y => decide_eq_true_iff)
def ml_gt : tX → tX → tX := mx_if2 g_64b c_gt (fun x y => i64 x ∧ i64 y) (fun x y => y < x) g64b_ok (fun x y => decide_eq_true_iff)
def ml_ge : tX → tX → tX := mx_if2 g_64b c_ge (fun x y => i64 x ∧ i64 y) (fun x y => y ≤ x) g64b_ok (fun x y => decide_eq_true_iff)
def ml_eq : tX → tX → tX := mx_if2 g_64b c_eq (fun x y => i64 x ∧ i64 y) (fun x y => x = y) g64b_ok (fun x y => decide_eq_true_iff)
def ml_ne : tX → tX → tX := mx_if2 g_64b c_ne (fun x y => i64 x ∧ i64 y) (fun x y => ¬ x = y) g64b_ok (fun x y => decide_eq_true_iff)
def mx_null : tX → tX → tX := mx_if1 c_null (fun x => x = 0) (fun x => decide_eq_true_iff)
def mx_idiv : tX → tX := mx_binG g_div (fun x y => i32 x ∧ i32 y ∧ y ≠ 0) (fun x y h => decide_eq_true h) f_div
def mx_irem : tX → tX := mx_binG g_div (fun x y => i32 x ∧ i32 y ∧ y ≠ 0) (fun x y h => decide_eq_true h) f_rem
def mx_ldiv : tX → tX := mx_binG g_ldiv (fun x y => i64 x ∧ i64 y ∧ y ≠ 0) (fun x y h => decide_eq_true h) f_div
def mx_lrem : tX → tX := mx_binG g_ldiv (fun x y => i64 x ∧ i64 y ∧ y ≠ 0) (fun x y h => decide_eq_true h) f_rem
def mx_i2l : tX → tX := mx_unG g_32 (fun x => i32 x) (fun x h => decide_eq_true h) f_id
def mx_iast : tX → tX := mx_ast 0 (fun _ => okF .int) (fun _ _ => rfl)
def mx_last : tX → tX := mx_ast 1 (fun _ => okF .long) (fun _ _ => rfl)
def mx_zast : tX → tX := mx_astG 2 (fun _ => okF .boolean) (fun _ v => v = 0 ∨ v = 1) (fun _ _ h => decide_eq_true h)
def mx_bast : tX → tX := mx_astG 3 (fun _ => okF .byte) (fun _ v => -128 ≤ v ∧ v ≤ 127) (fun _ _ h => decide_eq_true h)
def mx_aast (t et : Nat) : tX → tX := mx_astG t (okA et) (fun h v => v = 0 ∨ h.2.2.1 v = et) (fun _ _ h => decide_eq_true h)
