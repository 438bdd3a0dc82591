/-! a run's types do not depend on what is called -/
def opP (q : tOpE) : Instr × Nat × List Nat × List Nat := (q.1, q.2.1, q.2.2.1, q.2.2.2.1)
theorem opAt_x : ∀ {l m : List tOpE}, l.map opP = m.map opP → ∀ j, opP (opAt l j) = opP (opAt m j)
  | [], [], _, j => rfl
  | [], q :: m, h, j => by cases h
  | q :: l, [], h, j => by cases h
  | q :: l, r :: m, h, 0 => (List.cons.inj h).1
  | q :: l, r :: m, h, j + 1 => opAt_x (List.cons.inj h).2 j
theorem ckS_x {ops ops' : List tOpE} (hp : ops.map opP = ops'.map opP) (l : List Nat) (nL : Nat) : ∀ is pc lt ts, ckS l ops nL is pc lt ts = ckS l ops' nL is pc lt ts := by
  have hl : ops.length = ops'.length := by
    have := congrArg List.length hp
    simpa using this
  intro is
  induction is with
  | nil => intros; rfl
  | cons x is ih =>
    intro pc lt ts
    obtain ⟨a, j, d⟩ := x
    have e := opAt_x hp j
    have e1 : (opAt ops j).1 = (opAt ops' j).1 := congrArg (fun z => z.1) e
    have e2 : (opAt ops j).2.1 = (opAt ops' j).2.1 := congrArg (fun z => z.2.1) e
    have e3 : (opAt ops j).2.2.1 = (opAt ops' j).2.2.1 := congrArg (fun z => z.2.2.1) e
    have e4 : (opAt ops j).2.2.2.1 = (opAt ops' j).2.2.2.1 := congrArg (fun z => z.2.2.2) e
    match a with
    | 0 => simp only [ckS, e1, e2, e3, e4, hl, ih]
    | 1 => simp only [ckS, ih]
    | 2 => cases ts <;> simp only [ckS, ih]
    | 3 => simp only [ckS, ih]
    | n + 4 => simp only [ckS]
def tF0 : tFn := fun _ _ => none
