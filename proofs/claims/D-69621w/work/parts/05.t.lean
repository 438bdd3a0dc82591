/-! T: branches, moves on the stack, ends -/
def o_go (pc : Nat) : tB := fun L S h => some (.inl (pc, L, S, h))
def o_if2 (g : Int → Int → Bool) (f : Int → Int → Bool) (KT KF : tB) : tB := fun L S h => match S with
  | y :: x :: S' => if g x y = true then (if f x y = true then KT L S' h else KF L S' h) else none
  | _ => none
def g_32b (x y : Int) : Bool := decide (i32 x ∧ i32 y)
def g_64b (x y : Int) : Bool := decide (i64 x ∧ i64 y)
def c_lt (x y : Int) : Bool := decide (x < y)
def c_le (x y : Int) : Bool := decide (x ≤ y)
def c_gt (x y : Int) : Bool := decide (y < x)
def c_ge (x y : Int) : Bool := decide (y ≤ x)
def c_eq (x y : Int) : Bool := decide (x = y)
def c_ne (x y : Int) : Bool := decide (¬ x = y)
def o_if1 (f : Int → Bool) (KT KF : tB) : tB := fun L S h => match S with
  | x :: S' => if f x = true then KT L S' h else KF L S' h
  | _ => none
def c_null (x : Int) : Bool := decide (x = 0)
def o_dup (K : tB) : tB := fun L S h => match S with
  | x :: S' => K L (x :: x :: S') h
  | _ => none
def o_dup2 (K : tB) : tB := fun L S h => match S with
  | y :: x :: S' => K L (y :: x :: y :: x :: S') h
  | _ => none
def o_pop (K : tB) : tB := fun L S h => match S with
  | _ :: S' => K L S' h
  | _ => none
def o_ret : tB := fun _ S h => match S with
  | x :: _ => some (.inr ((false, x), h))
  | _ => none
def o_retv : tB := fun _ _ h => some (.inr ((false, 0), h))
theorem o_if2_some {g f : Int → Int → Bool} {KT KF : tB} {L S : List Int} {h : tH} {r : tN} (hB : o_if2 g f KT KF L S h = some r) : ∃ x y S', S = y :: x :: S' ∧ g x y = true ∧ ((f x y = true ∧ KT L S' h = some r) ∨ (f x y = false ∧ KF L S' h = some r)) := by
  match S, hB with
  | [], hB => cases hB
  | [a], hB => cases hB
  | y :: x :: S', hB =>
    unfold o_if2 at hB
    by_cases hg : g x y = true
    · refine ⟨x, y, S', rfl, hg, ?_⟩
      cases hf : f x y with
      | true => exact Or.inl ⟨rfl, by simpa [hg, hf] using hB⟩
      | false => exact Or.inr ⟨rfl, by simpa [hg, hf] using hB⟩
    · simp [hg] at hB
theorem o_if1_some {f : Int → Bool} {KT KF : tB} {L S : List Int} {h : tH} {r : tN} (hB : o_if1 f KT KF L S h = some r) : ∃ x S', S = x :: S' ∧ ((f x = true ∧ KT L S' h = some r) ∨ (f x = false ∧ KF L S' h = some r)) := by
  match S, hB with
  | [], hB => cases hB
  | x :: S', hB =>
    unfold o_if1 at hB
    refine ⟨x, S', rfl, ?_⟩
    cases hf : f x with
    | true => exact Or.inl ⟨rfl, by simpa [hf] using hB⟩
    | false => exact Or.inr ⟨rfl, by simpa [hf] using hB⟩
/-- a branch of two blocks -/
theorem tSd.step2 {E : tM} {pc pcT pcF : Nat} {lt : List (Nat × Nat)} {ts ts1 : List Nat} {B KT KF : tB} (hT : tSd E pcT lt ts1 KT) (hF : tSd E pcF lt ts1 KF)
    (hf : ∀ (L S : List Int) (h : tH) (r : tN), B L S h = some r → S.length = ts.length → L.length = tM.nL E →
      ∃ (S1 : List Int), S1.length = ts1.length ∧
        ((KT L S1 h = some r ∧ ∀ (p : Program) (l : Launch) (e : Env) (R : Room) (s : State) (m : MethodId) (args : Array Value) (below : List Frame) (meth : Method) (c : Code) (n0 u0 : Int) (fin : (Bool × Int) × tH), tC E l p R s m args meth c →
          tW E p l e R s m args below meth c n0 u0 fin pcT lt ts1 L S1 h → tW E p l e R s m args below meth c n0 u0 fin pc lt ts L S h) ∨
        (KF L S1 h = some r ∧ ∀ (p : Program) (l : Launch) (e : Env) (R : Room) (s : State) (m : MethodId) (args : Array Value) (below : List Frame) (meth : Method) (c : Code) (n0 u0 : Int) (fin : (Bool × Int) × tH), tC E l p R s m args meth c →
          tW E p l e R s m args below meth c n0 u0 fin pcF lt ts1 L S1 h → tW E p l e R s m args below meth c n0 u0 fin pc lt ts L S h))) : tSd E pc lt ts B := by
  intro L S h r hB hS hL
  obtain ⟨S1, k2, h1 | h1⟩ := hf L S h r hB hS hL
  · obtain ⟨m1, w1⟩ := hT L S1 h r h1.1 k2 hL
    refine ⟨m1, fun p l e R s m args below meth c n0 u0 fin hC a1 a2 a3 a4 a5 a6 a7 a8 => ?_⟩
    exact h1.2 p l e R s m args below meth c n0 u0 fin hC (w1 p l e R s m args below meth c n0 u0 fin hC a1 a2 a3 a4 a5 a6 a7 a8)
  · obtain ⟨m1, w1⟩ := hF L S1 h r h1.1 k2 hL
    refine ⟨m1, fun p l e R s m args below meth c n0 u0 fin hC a1 a2 a3 a4 a5 a6 a7 a8 => ?_⟩
    exact h1.2 p l e R s m args below meth c n0 u0 fin hC (w1 p l e R s m args below meth c n0 u0 fin hC a1 a2 a3 a4 a5 a6 a7 a8)
section TBR
variable {E : tM} {pc : Nat} {lt : List (Nat × Nat)} {ts : List Nat} {K KT KF : tB}
theorem t64_le {x y : Int} (hx : i64 x) (hy : i64 y) : Int64.ofInt x ≤ Int64.ofInt y ↔ x ≤ y := by
  rw [Int64.le_iff_toInt_le, t64 hx, t64 hy]
theorem s_icmp_eq {off : Int} (tgt : Nat) (hd : decode (tM.cc E) pc = .ok (.if_icmp .eq off, 3)) (ht : (pc : Int) + off = (tgt : Int)) (hT : tSd E tgt lt ts KT) (hF : tSd E (pc + 3) lt ts KF) : tSd E pc lt (0 :: 0 :: ts) (o_if2 g_32b c_eq KT KF) :=
  tSd.step2 hT hF fun L S h r hB hS hL => by
    obtain ⟨x, y, S', rfl, hg, hB⟩ := o_if2_some hB
    obtain ⟨a1, a2⟩ := of_decide_eq_true hg
    have hi := t32_eq a1 a2
    refine ⟨S', by simpa using hS, ?_⟩
    rcases hB with ⟨hf, hB⟩ | ⟨hf, hB⟩
    · refine Or.inl ⟨hB, fun p l e R s m args below meth c n0 u0 fin hC hW ls H locs h1 h2 h3 => ?_⟩
      exact lv_icmp_eq hC.1 hC.2.1 hd ht (fun _ => hW ls H locs h1 h2 h3) (fun q => absurd (hi.mpr (of_decide_eq_true hf)) q)
    · refine Or.inr ⟨hB, fun p l e R s m args below meth c n0 u0 fin hC hW ls H locs h1 h2 h3 => ?_⟩
      exact lv_icmp_eq hC.1 hC.2.1 hd ht (fun q => absurd (hi.mp q) (of_decide_eq_false hf)) (fun _ => hW ls H locs h1 h2 h3)
theorem s_if_eq {off : Int} (tgt : Nat) (hd : decode (tM.cc E) pc = .ok (.ifCond .eq off, 3)) (ht : (pc : Int) + off = (tgt : Int)) (hT : tSd E tgt lt ts KT) (hF : tSd E (pc + 3) lt ts KF) : tSd E pc lt (0 :: ts) (o_push 0 (o_if2 g_32b c_eq KT KF)) :=
  tSd.step2 hT hF fun L S h r hB hS hL => by
    obtain ⟨x, y, S', e0, hg, hB2⟩ := o_if2_some (S := 0 :: S) hB
    clear hB
    obtain ⟨a1, a2⟩ := of_decide_eq_true hg
    cases e0
    have hB := hB2
    have hi := t32_eq a1 a2
    refine ⟨S', by simpa using hS, ?_⟩
    rcases hB with ⟨hf, hB⟩ | ⟨hf, hB⟩
    · refine Or.inl ⟨hB, fun p l e R s m args below meth c n0 u0 fin hC hW ls H locs h1 h2 h3 => ?_⟩
      exact lv_if_eq hC.1 hC.2.1 hd ht (fun _ => hW ls H locs h1 h2 h3) (fun q => absurd (hi.mpr (of_decide_eq_true hf)) q)
    · refine Or.inr ⟨hB, fun p l e R s m args below meth c n0 u0 fin hC hW ls H locs h1 h2 h3 => ?_⟩
      exact lv_if_eq hC.1 hC.2.1 hd ht (fun q => absurd (hi.mp q) (of_decide_eq_false hf)) (fun _ => hW ls H locs h1 h2 h3)
theorem s_lcmp_eq {off : Int} (tgt : Nat) (hd0 : decode (tM.cc E) pc = .ok (.lcmp, 1)) (hd : decode (tM.cc E) (pc + 1) = .ok (.ifCond .eq off, 3)) (ht : ((pc + 1 : Nat) : Int) + off = (tgt : Int)) (hT : tSd E tgt lt ts KT) (hF : tSd E (pc + 4) lt ts KF) : tSd E pc lt (1 :: 1 :: ts) (o_if2 g_64b c_eq KT KF) :=
  tSd.step2 hT hF fun L S h r hB hS hL => by
    obtain ⟨x, y, S', rfl, hg, hB⟩ := o_if2_some hB
    obtain ⟨a1, a2⟩ := of_decide_eq_true hg
    have hi := Iff.trans (lg_cmp_eq _ _) (t64_eq a1 a2)
    refine ⟨S', by simpa using hS, ?_⟩
    rcases hB with ⟨hf, hB⟩ | ⟨hf, hB⟩
    · refine Or.inl ⟨hB, fun p l e R s m args below meth c n0 u0 fin hC hW ls H locs h1 h2 h3 => ?_⟩
      exact W.lcmp hC.1 hC.2.1 hd0 (lv_if_eq hC.1 hC.2.1 hd ht (fun _ => hW ls H locs h1 h2 h3) (fun q => absurd (hi.mpr (of_decide_eq_true hf)) q))
    · refine Or.inr ⟨hB, fun p l e R s m args below meth c n0 u0 fin hC hW ls H locs h1 h2 h3 => ?_⟩
      exact W.lcmp hC.1 hC.2.1 hd0 (lv_if_eq hC.1 hC.2.1 hd ht (fun q => absurd (hi.mp q) (of_decide_eq_false hf)) (fun _ => hW ls H locs h1 h2 h3))
theorem s_icmp_ne {off : Int} (tgt : Nat) (hd : decode (tM.cc E) pc = .ok (.if_icmp .ne off, 3)) (ht : (pc : Int) + off = (tgt : Int)) (hT : tSd E tgt lt ts KT) (hF : tSd E (pc + 3) lt ts KF) : tSd E pc lt (0 :: 0 :: ts) (o_if2 g_32b c_ne KT KF) :=
  tSd.step2 hT hF fun L S h r hB hS hL => by
    obtain ⟨x, y, S', rfl, hg, hB⟩ := o_if2_some hB
    obtain ⟨a1, a2⟩ := of_decide_eq_true hg
    have hi := not_congr (t32_eq a1 a2)
    refine ⟨S', by simpa using hS, ?_⟩
    rcases hB with ⟨hf, hB⟩ | ⟨hf, hB⟩
    · refine Or.inl ⟨hB, fun p l e R s m args below meth c n0 u0 fin hC hW ls H locs h1 h2 h3 => ?_⟩
      exact lv_icmp_ne hC.1 hC.2.1 hd ht (fun _ => hW ls H locs h1 h2 h3) (fun q => absurd q (hi.mpr (of_decide_eq_true hf)))
    · refine Or.inr ⟨hB, fun p l e R s m args below meth c n0 u0 fin hC hW ls H locs h1 h2 h3 => ?_⟩
      exact lv_icmp_ne hC.1 hC.2.1 hd ht (fun q => absurd (hi.mp q) (of_decide_eq_false hf)) (fun _ => hW ls H locs h1 h2 h3)
theorem s_if_ne {off : Int} (tgt : Nat) (hd : decode (tM.cc E) pc = .ok (.ifCond .ne off, 3)) (ht : (pc : Int) + off = (tgt : Int)) (hT : tSd E tgt lt ts KT) (hF : tSd E (pc + 3) lt ts KF) : tSd E pc lt (0 :: ts) (o_push 0 (o_if2 g_32b c_ne KT KF)) :=
  tSd.step2 hT hF fun L S h r hB hS hL => by
    obtain ⟨x, y, S', e0, hg, hB2⟩ := o_if2_some (S := 0 :: S) hB
    clear hB
    obtain ⟨a1, a2⟩ := of_decide_eq_true hg
    cases e0
    have hB := hB2
    have hi := not_congr (t32_eq a1 a2)
    refine ⟨S', by simpa using hS, ?_⟩
    rcases hB with ⟨hf, hB⟩ | ⟨hf, hB⟩
    · refine Or.inl ⟨hB, fun p l e R s m args below meth c n0 u0 fin hC hW ls H locs h1 h2 h3 => ?_⟩
      exact lv_if_ne hC.1 hC.2.1 hd ht (fun _ => hW ls H locs h1 h2 h3) (fun q => absurd q (hi.mpr (of_decide_eq_true hf)))
    · refine Or.inr ⟨hB, fun p l e R s m args below meth c n0 u0 fin hC hW ls H locs h1 h2 h3 => ?_⟩
      exact lv_if_ne hC.1 hC.2.1 hd ht (fun q => absurd (hi.mp q) (of_decide_eq_false hf)) (fun _ => hW ls H locs h1 h2 h3)
theorem s_lcmp_ne {off : Int} (tgt : Nat) (hd0 : decode (tM.cc E) pc = .ok (.lcmp, 1)) (hd : decode (tM.cc E) (pc + 1) = .ok (.ifCond .ne off, 3)) (ht : ((pc + 1 : Nat) : Int) + off = (tgt : Int)) (hT : tSd E tgt lt ts KT) (hF : tSd E (pc + 4) lt ts KF) : tSd E pc lt (1 :: 1 :: ts) (o_if2 g_64b c_ne KT KF) :=
  tSd.step2 hT hF fun L S h r hB hS hL => by
    obtain ⟨x, y, S', rfl, hg, hB⟩ := o_if2_some hB
    obtain ⟨a1, a2⟩ := of_decide_eq_true hg
    have hi := Iff.trans (not_congr (lg_cmp_eq _ _)) (not_congr (t64_eq a1 a2))
    refine ⟨S', by simpa using hS, ?_⟩
    rcases hB with ⟨hf, hB⟩ | ⟨hf, hB⟩
    · refine Or.inl ⟨hB, fun p l e R s m args below meth c n0 u0 fin hC hW ls H locs h1 h2 h3 => ?_⟩
      exact W.lcmp hC.1 hC.2.1 hd0 (lv_if_ne hC.1 hC.2.1 hd ht (fun _ => hW ls H locs h1 h2 h3) (fun q => absurd q (hi.mpr (of_decide_eq_true hf))))
    · refine Or.inr ⟨hB, fun p l e R s m args below meth c n0 u0 fin hC hW ls H locs h1 h2 h3 => ?_⟩
      exact W.lcmp hC.1 hC.2.1 hd0 (lv_if_ne hC.1 hC.2.1 hd ht (fun q => absurd (hi.mp q) (of_decide_eq_false hf)) (fun _ => hW ls H locs h1 h2 h3))
theorem s_icmp_lt {off : Int} (tgt : Nat) (hd : decode (tM.cc E) pc = .ok (.if_icmp .lt off, 3)) (ht : (pc : Int) + off = (tgt : Int)) (hT : tSd E tgt lt ts KT) (hF : tSd E (pc + 3) lt ts KF) : tSd E pc lt (0 :: 0 :: ts) (o_if2 g_32b c_lt KT KF) :=
  tSd.step2 hT hF fun L S h r hB hS hL => by
    obtain ⟨x, y, S', rfl, hg, hB⟩ := o_if2_some hB
    obtain ⟨a1, a2⟩ := of_decide_eq_true hg
    have hi := t32_lt a1 a2
    refine ⟨S', by simpa using hS, ?_⟩
    rcases hB with ⟨hf, hB⟩ | ⟨hf, hB⟩
    · refine Or.inl ⟨hB, fun p l e R s m args below meth c n0 u0 fin hC hW ls H locs h1 h2 h3 => ?_⟩
      exact lv_icmp_lt hC.1 hC.2.1 hd ht (fun _ => hW ls H locs h1 h2 h3) (fun q => absurd (hi.mpr (of_decide_eq_true hf)) q)
    · refine Or.inr ⟨hB, fun p l e R s m args below meth c n0 u0 fin hC hW ls H locs h1 h2 h3 => ?_⟩
      exact lv_icmp_lt hC.1 hC.2.1 hd ht (fun q => absurd (hi.mp q) (of_decide_eq_false hf)) (fun _ => hW ls H locs h1 h2 h3)
theorem s_if_lt {off : Int} (tgt : Nat) (hd : decode (tM.cc E) pc = .ok (.ifCond .lt off, 3)) (ht : (pc : Int) + off = (tgt : Int)) (hT : tSd E tgt lt ts KT) (hF : tSd E (pc + 3) lt ts KF) : tSd E pc lt (0 :: ts) (o_push 0 (o_if2 g_32b c_lt KT KF)) :=
  tSd.step2 hT hF fun L S h r hB hS hL => by
    obtain ⟨x, y, S', e0, hg, hB2⟩ := o_if2_some (S := 0 :: S) hB
    clear hB
    obtain ⟨a1, a2⟩ := of_decide_eq_true hg
    cases e0
    have hB := hB2
    have hi := t32_lt a1 a2
    refine ⟨S', by simpa using hS, ?_⟩
    rcases hB with ⟨hf, hB⟩ | ⟨hf, hB⟩
    · refine Or.inl ⟨hB, fun p l e R s m args below meth c n0 u0 fin hC hW ls H locs h1 h2 h3 => ?_⟩
      exact lv_if_lt hC.1 hC.2.1 hd ht (fun _ => hW ls H locs h1 h2 h3) (fun q => absurd (hi.mpr (of_decide_eq_true hf)) q)
    · refine Or.inr ⟨hB, fun p l e R s m args below meth c n0 u0 fin hC hW ls H locs h1 h2 h3 => ?_⟩
      exact lv_if_lt hC.1 hC.2.1 hd ht (fun q => absurd (hi.mp q) (of_decide_eq_false hf)) (fun _ => hW ls H locs h1 h2 h3)
theorem s_lcmp_lt {off : Int} (tgt : Nat) (hd0 : decode (tM.cc E) pc = .ok (.lcmp, 1)) (hd : decode (tM.cc E) (pc + 1) = .ok (.ifCond .lt off, 3)) (ht : ((pc + 1 : Nat) : Int) + off = (tgt : Int)) (hT : tSd E tgt lt ts KT) (hF : tSd E (pc + 4) lt ts KF) : tSd E pc lt (1 :: 1 :: ts) (o_if2 g_64b c_lt KT KF) :=
  tSd.step2 hT hF fun L S h r hB hS hL => by
    obtain ⟨x, y, S', rfl, hg, hB⟩ := o_if2_some hB
    obtain ⟨a1, a2⟩ := of_decide_eq_true hg
    have hi := Iff.trans (lg_cmp_lt _ _) (t64_lt a1 a2)
    refine ⟨S', by simpa using hS, ?_⟩
    rcases hB with ⟨hf, hB⟩ | ⟨hf, hB⟩
    · refine Or.inl ⟨hB, fun p l e R s m args below meth c n0 u0 fin hC hW ls H locs h1 h2 h3 => ?_⟩
      exact W.lcmp hC.1 hC.2.1 hd0 (lv_if_lt hC.1 hC.2.1 hd ht (fun _ => hW ls H locs h1 h2 h3) (fun q => absurd (hi.mpr (of_decide_eq_true hf)) q))
    · refine Or.inr ⟨hB, fun p l e R s m args below meth c n0 u0 fin hC hW ls H locs h1 h2 h3 => ?_⟩
      exact W.lcmp hC.1 hC.2.1 hd0 (lv_if_lt hC.1 hC.2.1 hd ht (fun q => absurd (hi.mp q) (of_decide_eq_false hf)) (fun _ => hW ls H locs h1 h2 h3))
theorem s_icmp_le {off : Int} (tgt : Nat) (hd : decode (tM.cc E) pc = .ok (.if_icmp .le off, 3)) (ht : (pc : Int) + off = (tgt : Int)) (hT : tSd E tgt lt ts KT) (hF : tSd E (pc + 3) lt ts KF) : tSd E pc lt (0 :: 0 :: ts) (o_if2 g_32b c_le KT KF) :=
  tSd.step2 hT hF fun L S h r hB hS hL => by
    obtain ⟨x, y, S', rfl, hg, hB⟩ := o_if2_some hB
    obtain ⟨a1, a2⟩ := of_decide_eq_true hg
    have hi := t32_le a1 a2
    refine ⟨S', by simpa using hS, ?_⟩
    rcases hB with ⟨hf, hB⟩ | ⟨hf, hB⟩
    · refine Or.inl ⟨hB, fun p l e R s m args below meth c n0 u0 fin hC hW ls H locs h1 h2 h3 => ?_⟩
      exact lv_icmp_le hC.1 hC.2.1 hd ht (fun _ => hW ls H locs h1 h2 h3) (fun q => absurd (hi.mpr (of_decide_eq_true hf)) q)
    · refine Or.inr ⟨hB, fun p l e R s m args below meth c n0 u0 fin hC hW ls H locs h1 h2 h3 => ?_⟩
      exact lv_icmp_le hC.1 hC.2.1 hd ht (fun q => absurd (hi.mp q) (of_decide_eq_false hf)) (fun _ => hW ls H locs h1 h2 h3)
theorem s_if_le {off : Int} (tgt : Nat) (hd : decode (tM.cc E) pc = .ok (.ifCond .le off, 3)) (ht : (pc : Int) + off = (tgt : Int)) (hT : tSd E tgt lt ts KT) (hF : tSd E (pc + 3) lt ts KF) : tSd E pc lt (0 :: ts) (o_push 0 (o_if2 g_32b c_le KT KF)) :=
  tSd.step2 hT hF fun L S h r hB hS hL => by
    obtain ⟨x, y, S', e0, hg, hB2⟩ := o_if2_some (S := 0 :: S) hB
    clear hB
    obtain ⟨a1, a2⟩ := of_decide_eq_true hg
    cases e0
    have hB := hB2
    have hi := t32_le a1 a2
    refine ⟨S', by simpa using hS, ?_⟩
    rcases hB with ⟨hf, hB⟩ | ⟨hf, hB⟩
    · refine Or.inl ⟨hB, fun p l e R s m args below meth c n0 u0 fin hC hW ls H locs h1 h2 h3 => ?_⟩
      exact lv_if_le hC.1 hC.2.1 hd ht (fun _ => hW ls H locs h1 h2 h3) (fun q => absurd (hi.mpr (of_decide_eq_true hf)) q)
    · refine Or.inr ⟨hB, fun p l e R s m args below meth c n0 u0 fin hC hW ls H locs h1 h2 h3 => ?_⟩
      exact lv_if_le hC.1 hC.2.1 hd ht (fun q => absurd (hi.mp q) (of_decide_eq_false hf)) (fun _ => hW ls H locs h1 h2 h3)
theorem s_lcmp_le {off : Int} (tgt : Nat) (hd0 : decode (tM.cc E) pc = .ok (.lcmp, 1)) (hd : decode (tM.cc E) (pc + 1) = .ok (.ifCond .le off, 3)) (ht : ((pc + 1 : Nat) : Int) + off = (tgt : Int)) (hT : tSd E tgt lt ts KT) (hF : tSd E (pc + 4) lt ts KF) : tSd E pc lt (1 :: 1 :: ts) (o_if2 g_64b c_le KT KF) :=
  tSd.step2 hT hF fun L S h r hB hS hL => by
    obtain ⟨x, y, S', rfl, hg, hB⟩ := o_if2_some hB
    obtain ⟨a1, a2⟩ := of_decide_eq_true hg
    have hi := Iff.trans (lg_cmp_le _ _) (t64_le a1 a2)
    refine ⟨S', by simpa using hS, ?_⟩
    rcases hB with ⟨hf, hB⟩ | ⟨hf, hB⟩
    · refine Or.inl ⟨hB, fun p l e R s m args below meth c n0 u0 fin hC hW ls H locs h1 h2 h3 => ?_⟩
      exact W.lcmp hC.1 hC.2.1 hd0 (lv_if_le hC.1 hC.2.1 hd ht (fun _ => hW ls H locs h1 h2 h3) (fun q => absurd (hi.mpr (of_decide_eq_true hf)) q))
    · refine Or.inr ⟨hB, fun p l e R s m args below meth c n0 u0 fin hC hW ls H locs h1 h2 h3 => ?_⟩
      exact W.lcmp hC.1 hC.2.1 hd0 (lv_if_le hC.1 hC.2.1 hd ht (fun q => absurd (hi.mp q) (of_decide_eq_false hf)) (fun _ => hW ls H locs h1 h2 h3))
theorem s_icmp_gt {off : Int} (tgt : Nat) (hd : decode (tM.cc E) pc = .ok (.if_icmp .gt off, 3)) (ht : (pc : Int) + off = (tgt : Int)) (hT : tSd E tgt lt ts KT) (hF : tSd E (pc + 3) lt ts KF) : tSd E pc lt (0 :: 0 :: ts) (o_if2 g_32b c_gt KT KF) :=
  tSd.step2 hT hF fun L S h r hB hS hL => by
    obtain ⟨x, y, S', rfl, hg, hB⟩ := o_if2_some hB
    obtain ⟨a1, a2⟩ := of_decide_eq_true hg
    have hi := t32_lt a2 a1
    refine ⟨S', by simpa using hS, ?_⟩
    rcases hB with ⟨hf, hB⟩ | ⟨hf, hB⟩
    · refine Or.inl ⟨hB, fun p l e R s m args below meth c n0 u0 fin hC hW ls H locs h1 h2 h3 => ?_⟩
      exact lv_icmp_gt hC.1 hC.2.1 hd ht (fun _ => hW ls H locs h1 h2 h3) (fun q => absurd (hi.mpr (of_decide_eq_true hf)) q)
    · refine Or.inr ⟨hB, fun p l e R s m args below meth c n0 u0 fin hC hW ls H locs h1 h2 h3 => ?_⟩
      exact lv_icmp_gt hC.1 hC.2.1 hd ht (fun q => absurd (hi.mp q) (of_decide_eq_false hf)) (fun _ => hW ls H locs h1 h2 h3)
theorem s_if_gt {off : Int} (tgt : Nat) (hd : decode (tM.cc E) pc = .ok (.ifCond .gt off, 3)) (ht : (pc : Int) + off = (tgt : Int)) (hT : tSd E tgt lt ts KT) (hF : tSd E (pc + 3) lt ts KF) : tSd E pc lt (0 :: ts) (o_push 0 (o_if2 g_32b c_gt KT KF)) :=
  tSd.step2 hT hF fun L S h r hB hS hL => by
    obtain ⟨x, y, S', e0, hg, hB2⟩ := o_if2_some (S := 0 :: S) hB
    clear hB
    obtain ⟨a1, a2⟩ := of_decide_eq_true hg
    cases e0
    have hB := hB2
    have hi := t32_lt a2 a1
    refine ⟨S', by simpa using hS, ?_⟩
    rcases hB with ⟨hf, hB⟩ | ⟨hf, hB⟩
    · refine Or.inl ⟨hB, fun p l e R s m args below meth c n0 u0 fin hC hW ls H locs h1 h2 h3 => ?_⟩
      exact lv_if_gt hC.1 hC.2.1 hd ht (fun _ => hW ls H locs h1 h2 h3) (fun q => absurd (hi.mpr (of_decide_eq_true hf)) q)
    · refine Or.inr ⟨hB, fun p l e R s m args below meth c n0 u0 fin hC hW ls H locs h1 h2 h3 => ?_⟩
      exact lv_if_gt hC.1 hC.2.1 hd ht (fun q => absurd (hi.mp q) (of_decide_eq_false hf)) (fun _ => hW ls H locs h1 h2 h3)
theorem s_lcmp_gt {off : Int} (tgt : Nat) (hd0 : decode (tM.cc E) pc = .ok (.lcmp, 1)) (hd : decode (tM.cc E) (pc + 1) = .ok (.ifCond .gt off, 3)) (ht : ((pc + 1 : Nat) : Int) + off = (tgt : Int)) (hT : tSd E tgt lt ts KT) (hF : tSd E (pc + 4) lt ts KF) : tSd E pc lt (1 :: 1 :: ts) (o_if2 g_64b c_gt KT KF) :=
  tSd.step2 hT hF fun L S h r hB hS hL => by
    obtain ⟨x, y, S', rfl, hg, hB⟩ := o_if2_some hB
    obtain ⟨a1, a2⟩ := of_decide_eq_true hg
    have hi := Iff.trans (lg_cmp_gt _ _) (t64_lt a2 a1)
    refine ⟨S', by simpa using hS, ?_⟩
    rcases hB with ⟨hf, hB⟩ | ⟨hf, hB⟩
    · refine Or.inl ⟨hB, fun p l e R s m args below meth c n0 u0 fin hC hW ls H locs h1 h2 h3 => ?_⟩
      exact W.lcmp hC.1 hC.2.1 hd0 (lv_if_gt hC.1 hC.2.1 hd ht (fun _ => hW ls H locs h1 h2 h3) (fun q => absurd (hi.mpr (of_decide_eq_true hf)) q))
    · refine Or.inr ⟨hB, fun p l e R s m args below meth c n0 u0 fin hC hW ls H locs h1 h2 h3 => ?_⟩
      exact W.lcmp hC.1 hC.2.1 hd0 (lv_if_gt hC.1 hC.2.1 hd ht (fun q => absurd (hi.mp q) (of_decide_eq_false hf)) (fun _ => hW ls H locs h1 h2 h3))
theorem s_icmp_ge {off : Int} (tgt : Nat) (hd : decode (tM.cc E) pc = .ok (.if_icmp .ge off, 3)) (ht : (pc : Int) + off = (tgt : Int)) (hT : tSd E tgt lt ts KT) (hF : tSd E (pc + 3) lt ts KF) : tSd E pc lt (0 :: 0 :: ts) (o_if2 g_32b c_ge KT KF) :=
  tSd.step2 hT hF fun L S h r hB hS hL => by
    obtain ⟨x, y, S', rfl, hg, hB⟩ := o_if2_some hB
    obtain ⟨a1, a2⟩ := of_decide_eq_true hg
    have hi := t32_le a2 a1
    refine ⟨S', by simpa using hS, ?_⟩
    rcases hB with ⟨hf, hB⟩ | ⟨hf, hB⟩
    · refine Or.inl ⟨hB, fun p l e R s m args below meth c n0 u0 fin hC hW ls H locs h1 h2 h3 => ?_⟩
      exact lv_icmp_ge hC.1 hC.2.1 hd ht (fun _ => hW ls H locs h1 h2 h3) (fun q => absurd (hi.mpr (of_decide_eq_true hf)) q)
    · refine Or.inr ⟨hB, fun p l e R s m args below meth c n0 u0 fin hC hW ls H locs h1 h2 h3 => ?_⟩
      exact lv_icmp_ge hC.1 hC.2.1 hd ht (fun q => absurd (hi.mp q) (of_decide_eq_false hf)) (fun _ => hW ls H locs h1 h2 h3)
theorem s_if_ge {off : Int} (tgt : Nat) (hd : decode (tM.cc E) pc = .ok (.ifCond .ge off, 3)) (ht : (pc : Int) + off = (tgt : Int)) (hT : tSd E tgt lt ts KT) (hF : tSd E (pc + 3) lt ts KF) : tSd E pc lt (0 :: ts) (o_push 0 (o_if2 g_32b c_ge KT KF)) :=
  tSd.step2 hT hF fun L S h r hB hS hL => by
    obtain ⟨x, y, S', e0, hg, hB2⟩ := o_if2_some (S := 0 :: S) hB
    clear hB
    obtain ⟨a1, a2⟩ := of_decide_eq_true hg
    cases e0
    have hB := hB2
    have hi := t32_le a2 a1
    refine ⟨S', by simpa using hS, ?_⟩
    rcases hB with ⟨hf, hB⟩ | ⟨hf, hB⟩
    · refine Or.inl ⟨hB, fun p l e R s m args below meth c n0 u0 fin hC hW ls H locs h1 h2 h3 => ?_⟩
      exact lv_if_ge hC.1 hC.2.1 hd ht (fun _ => hW ls H locs h1 h2 h3) (fun q => absurd (hi.mpr (of_decide_eq_true hf)) q)
    · refine Or.inr ⟨hB, fun p l e R s m args below meth c n0 u0 fin hC hW ls H locs h1 h2 h3 => ?_⟩
      exact lv_if_ge hC.1 hC.2.1 hd ht (fun q => absurd (hi.mp q) (of_decide_eq_false hf)) (fun _ => hW ls H locs h1 h2 h3)
theorem s_lcmp_ge {off : Int} (tgt : Nat) (hd0 : decode (tM.cc E) pc = .ok (.lcmp, 1)) (hd : decode (tM.cc E) (pc + 1) = .ok (.ifCond .ge off, 3)) (ht : ((pc + 1 : Nat) : Int) + off = (tgt : Int)) (hT : tSd E tgt lt ts KT) (hF : tSd E (pc + 4) lt ts KF) : tSd E pc lt (1 :: 1 :: ts) (o_if2 g_64b c_ge KT KF) :=
  tSd.step2 hT hF fun L S h r hB hS hL => by
    obtain ⟨x, y, S', rfl, hg, hB⟩ := o_if2_some hB
    obtain ⟨a1, a2⟩ := of_decide_eq_true hg
    have hi := Iff.trans (lg_cmp_ge _ _) (t64_le a2 a1)
    refine ⟨S', by simpa using hS, ?_⟩
    rcases hB with ⟨hf, hB⟩ | ⟨hf, hB⟩
    · refine Or.inl ⟨hB, fun p l e R s m args below meth c n0 u0 fin hC hW ls H locs h1 h2 h3 => ?_⟩
      exact W.lcmp hC.1 hC.2.1 hd0 (lv_if_ge hC.1 hC.2.1 hd ht (fun _ => hW ls H locs h1 h2 h3) (fun q => absurd (hi.mpr (of_decide_eq_true hf)) q))
    · refine Or.inr ⟨hB, fun p l e R s m args below meth c n0 u0 fin hC hW ls H locs h1 h2 h3 => ?_⟩
      exact W.lcmp hC.1 hC.2.1 hd0 (lv_if_ge hC.1 hC.2.1 hd ht (fun q => absurd (hi.mp q) (of_decide_eq_false hf)) (fun _ => hW ls H locs h1 h2 h3))
theorem s_ifnull {off : Int} (tgt : Nat) (hd : decode (tM.cc E) pc = .ok (.ifnull off, 3)) (ht : (pc : Int) + off = (tgt : Int)) (hT : tSd E tgt lt ts KT) (hF : tSd E (pc + 3) lt ts KF) : tSd E pc lt (2 :: ts) (o_if1 c_null KT KF) :=
  tSd.step2 hT hF fun L S h r hB hS hL => by
    obtain ⟨x, S', rfl, hB2⟩ := o_if1_some hB
    clear hB
    have hB := hB2
    refine ⟨S', by simpa using hS, ?_⟩
    rcases hB with ⟨hf, hB⟩ | ⟨hf, hB⟩
    · have hx : x = 0 := of_decide_eq_true hf
      subst hx
      exact Or.inl ⟨hB, fun p l e R s m args below meth c n0 u0 fin hC hW ls H locs h1 h2 h3 => lv_ifnullN hC.1 hC.2.1 hd ht (hW ls H locs h1 h2 h3)⟩
    · have hx : ¬ x = 0 := of_decide_eq_false hf
      refine Or.inr ⟨hB, fun p l e R s m args below meth c n0 u0 fin hC hW ls H locs h1 h2 h3 => ?_⟩
      rw [tSt_cons, tE_ref hx]
      exact lv_ifnull hC.1 hC.2.1 hd (hW ls H locs h1 h2 h3)
theorem s_ifnonnull {off : Int} (tgt : Nat) (hd : decode (tM.cc E) pc = .ok (.ifnonnull off, 3)) (ht : (pc : Int) + off = (tgt : Int)) (hT : tSd E tgt lt ts KT) (hF : tSd E (pc + 3) lt ts KF) : tSd E pc lt (2 :: ts) (o_if1 c_null KF KT) :=
  tSd.step2 hF hT fun L S h r hB hS hL => by
    obtain ⟨x, S', rfl, hB2⟩ := o_if1_some hB
    clear hB
    have hB := hB2
    refine ⟨S', by simpa using hS, ?_⟩
    rcases hB with ⟨hf, hB⟩ | ⟨hf, hB⟩
    · have hx : x = 0 := of_decide_eq_true hf
      subst hx
      exact Or.inl ⟨hB, fun p l e R s m args below meth c n0 u0 fin hC hW ls H locs h1 h2 h3 => lv_ifnonnullN hC.1 hC.2.1 hd (hW ls H locs h1 h2 h3)⟩
    · have hx : ¬ x = 0 := of_decide_eq_false hf
      refine Or.inr ⟨hB, fun p l e R s m args below meth c n0 u0 fin hC hW ls H locs h1 h2 h3 => ?_⟩
      rw [tSt_cons, tE_ref hx]
      exact lv_ifnonnull hC.1 hC.2.1 hd ht (hW ls H locs h1 h2 h3)
theorem s_goto {off : Int} (tgt : Nat) (hd : decode (tM.cc E) pc = .ok (.goto off, 3)) (ht : (pc : Int) + off = (tgt : Int)) (hK : tSd E tgt lt ts K) : tSd E pc lt ts K :=
  hK.step fun L S h r hB hS hL => ⟨L, S, hB, hS, hL, fun p l e R s m args below meth c n0 u0 fin hC hW ls H locs h1 h2 h3 => lv_goto hC.1 hC.2.1 hd ht (hW ls H locs h1 h2 h3)⟩
/-- come to the head of a block -/
theorem s_at (hs : (tM.te E pc).2 = ts) (hl : (tM.te E pc).1.all (fun q => tIn lt q.1 q.2) = true) : tSd E pc lt ts (o_go pc) := by
  intro L S h r hB hS hL
  cases hB
  refine ⟨⟨Int.le_refl _, Int.le_refl _, fun pc' L' S' h' hz => by cases hz; exact ⟨hL, by rw [hs]; exact hS⟩⟩, fun p l e R s m args below meth c n0 u0 fin hC a1 a2 a3 a4 a5 a6 a7 a8 => ?_⟩
  have hw := a8 pc L S h rfl hL (by rw [hs]; exact hS)
  intro ls H locs h1 h2 h3
  have hw2 := hw ls H locs ⟨h1.1, h1.2.1, fun q hq => by
    obtain ⟨q', hq', rfl⟩ := List.mem_map.mp hq
    exact tL.at h1 (List.all_eq_true.mp hl q' hq')⟩ h2 h3
  rw [hs] at hw2
  exact hw2
theorem s_dup (k : Nat) (hk : (k == 1) = false) (hd : decode (tM.cc E) pc = .ok (.dup, 1)) (hK : tSd E (pc + 1) lt (k :: k :: ts) K) : tSd E pc lt (k :: ts) (o_dup K) :=
  hK.step fun L S h r hB hS hL => by
    match S, hB with
    | x :: S', hB =>
      exact ⟨L, x :: x :: S', hB, by simpa using hS, hL, fun p l e R s m args below meth c n0 u0 fin hC hW ls H locs h1 h2 h3 => lv_dup hC.1 hC.2.1 hd (by rw [tE_cat, if_neg (by simpa using hk)]) (hW ls H locs h1 h2 h3)⟩
theorem s_pop (k : Nat) (hk : (k == 1) = false) (hd : decode (tM.cc E) pc = .ok (.pop, 1)) (hK : tSd E (pc + 1) lt ts K) : tSd E pc lt (k :: ts) (o_pop K) :=
  hK.step fun L S h r hB hS hL => by
    match S, hB with
    | x :: S', hB =>
      exact ⟨L, S', hB, by simpa using hS, hL, fun p l e R s m args below meth c n0 u0 fin hC hW ls H locs h1 h2 h3 => lv_pop hC.1 hC.2.1 hd (by rw [tE_cat, if_neg (by simpa using hk)]) (hW ls H locs h1 h2 h3)⟩
theorem s_dup2 (k j : Nat) (hk : (k == 1) = false) (hj : (j == 1) = false) (hd : decode (tM.cc E) pc = .ok (.dup2, 1)) (hK : tSd E (pc + 1) lt (k :: j :: k :: j :: ts) K) : tSd E pc lt (k :: j :: ts) (o_dup2 K) :=
  hK.step fun L S h r hB hS hL => by
    match S, hB with
    | y :: x :: S', hB =>
      exact ⟨L, y :: x :: y :: x :: S', hB, by simpa using hS, hL, fun p l e R s m args below meth c n0 u0 fin hC hW ls H locs h1 h2 h3 => lv_dup2_11 hC.1 hC.2.1 hd (by rw [tE_cat, if_neg (by simpa using hk)]) (by rw [tE_cat, if_neg (by simpa using hj)]) (hW ls H locs h1 h2 h3)⟩
theorem W.mono {p : Program} {l : Launch} {e : Env} {R : Room} {s : State} {m : MethodId} {args : Array Value} {below : List Frame} {meth : Method} {c : Code} {H : Heap} {locs : List Loc} {cells slots : Nat} {Q Q' : State → Prop} {g : JFrame} (hq : ∀ t, Q t → Q' t) (h : W p l e R s m args below meth c H locs cells slots Q g) : W p l e R s m args below meth c H locs cells slots Q' g := by
  intro T hT X
  obtain ⟨t, a, b⟩ := h T hT X
  exact ⟨t, a, hq t b⟩
/-- what a return gives -/
theorem tQ.of {D : tD} {b0 : Nat} {rt : Option FieldType} {below : List Frame} {s : State} {args : Array Value} {n0 u0 : Int} {o : Bool × Int} {h : tH} {t : State}
    (q : MQ below (fun _ _ oc t => oc = tO rt o ∧ tR D b0 h t.heap ∧ ∀ q : Nat, q < b0 → t.heap[q]? = s.heap[q]?) args s (h.2.2.2.1 - n0).toNat (h.2.2.2.2 - u0).toNat (fun q => b0 ≤ q) t) : tQ D b0 rt below s n0 u0 (o, h) t := by
  obtain ⟨oc, r1, r2, ⟨r3, r4, r5⟩, Ls, ⟨-, r6, r7⟩, r8⟩ := q
  subst r3
  exact ⟨r1, r2, r4, r6, r5, Ls, r7, r8⟩
theorem tEnd {D : tD} {b0 : Nat} {rt : Option FieldType} {s : State} {H : Heap} {locs : List Loc} {o : Bool × Int} {h : tH} (hb : b0 ≤ s.heap.size) (h2 : tR D b0 h H) (h3 : va_S (fun q => b0 ≤ q) s.heap H locs) {oc : Outcome} (ho : oc = tO rt o) (t : State) (ht : t.heap = H) :
    oc = tO rt o ∧ tR D b0 h t.heap ∧ ∀ q : Nat, q < b0 → t.heap[q]? = s.heap[q]? :=
  ⟨ho, by rw [ht]; exact h2, fun q hq => by rw [ht]; exact h3.2.1 q (by omega) (by omega)⟩
theorem tSd.stop {B : tB} (hf : ∀ (L S : List Int) (h : tH) (r : tN), B L S h = some r → S.length = ts.length → L.length = tM.nL E → ∃ o : Bool × Int, r = .inr (o, h) ∧
    ∀ (p : Program) (l : Launch) (e : Env) (R : Room) (s : State) (m : MethodId) (args : Array Value) (below : List Frame) (meth : Method) (c : Code) (n0 u0 : Int), tC E l p R s m args meth c → tW E p l e R s m args below meth c n0 u0 (o, h) pc lt ts L S h) : tSd E pc lt ts B := by
  intro L S h r hB hS hL
  obtain ⟨o, rfl, k⟩ := hf L S h r hB hS hL
  refine ⟨⟨Int.le_refl _, Int.le_refl _, fun pc' L' S' h' hz => by cases hz⟩, fun p l e R s m args below meth c n0 u0 fin hC a1 a2 a3 a4 a5 a6 a7 a8 => ?_⟩
  rw [a7 _ rfl]
  exact k p l e R s m args below meth c n0 u0 hC
def o_retz : tB := fun _ S h => match S with
  | x :: _ => if x = 0 ∨ x = 1 then some (.inr ((false, x), h)) else none
  | _ => none
theorem s_iret (hd : decode (tM.cc E) pc = .ok (.ireturn, 1)) (hr : tM.rt E = some .int) : tSd E pc lt [0] o_ret :=
  tSd.stop fun L S h r hB hS hL => by
    match S, hB, hS with
    | [x], hB, hS =>
      cases hB
      refine ⟨(false, x), rfl, fun p l e R s m args below meth c n0 u0 hC ls H locs h1 h2 h3 => ?_⟩
      exact W.mono (fun t q => tQ.of q) (W.iret (v := Int32.ofInt x) hC.1 hC.2.1 (by rw [hC.2.2.2.2.2.2.2.2.2.2.1]; exact hr) (fun t ht hw => tEnd hC.2.2.2.2.2.2.1 h2 h3 (by rw [hr]; rfl) t ht) h3.2.2 hd hC.2.2.2.2.2.2.2.2.2.1)
theorem s_zret (hd : decode (tM.cc E) pc = .ok (.ireturn, 1)) (hr : tM.rt E = some .boolean) : tSd E pc lt [0] o_retz :=
  tSd.stop fun L S h r hB hS hL => by
    match S, hB, hS with
    | [x], hB, hS =>
      unfold o_retz at hB
      simp only at hB
      split at hB
      · rename_i hx
        cases hB
        refine ⟨(false, x), rfl, fun p l e R s m args below meth c n0 u0 hC ls H locs h1 h2 h3 => ?_⟩
        exact W.mono (fun t q => tQ.of q) (W.zret (v := Int32.ofInt x) (ty := .boolean) hC.1 hC.2.1 (by rw [hC.2.2.2.2.2.2.2.2.2.2.1]; exact hr) (by rcases hx with rfl | rfl <;> rfl) (fun t ht hw => tEnd hC.2.2.2.2.2.2.1 h2 h3 (by rw [hr]; rfl) t ht) h3.2.2 hd hC.2.2.2.2.2.2.2.2.2.1)
      · cases hB
theorem s_lret (hd : decode (tM.cc E) pc = .ok (.lreturn, 1)) (hr : tM.rt E = some .long) : tSd E pc lt [1] o_ret :=
  tSd.stop fun L S h r hB hS hL => by
    match S, hB, hS with
    | [x], hB, hS =>
      cases hB
      refine ⟨(false, x), rfl, fun p l e R s m args below meth c n0 u0 hC ls H locs h1 h2 h3 => ?_⟩
      exact W.mono (fun t q => tQ.of q) (W.lret (v := Int64.ofInt x) hC.1 hC.2.1 (by rw [hC.2.2.2.2.2.2.2.2.2.2.1]; exact hr) (fun t ht hw => tEnd hC.2.2.2.2.2.2.1 h2 h3 (by rw [hr]; rfl) t ht) h3.2.2 hd hC.2.2.2.2.2.2.2.2.2.1)
theorem s_aret (rt : FieldType) (hd : decode (tM.cc E) pc = .ok (.areturn, 1)) (hr : tM.rt E = some rt) (hrt : (∃ n, rt = .object n) ∨ ∃ t, rt = .array t) : tSd E pc lt [2] o_ret :=
  tSd.stop fun L S h r hB hS hL => by
    match S, hB, hS with
    | [x], hB, hS =>
      cases hB
      refine ⟨(false, x), rfl, fun p l e R s m args below meth c n0 u0 hC ls H locs h1 h2 h3 => ?_⟩
      have hk : kdF rt = 2 := by rcases hrt with ⟨n, rfl⟩ | ⟨t, rfl⟩ <;> rfl
      have hv : tE 2 x = .null ∨ ∃ a, tE 2 x = .ref a := by
        by_cases hx : x = 0
        · exact Or.inl (by rw [hx]; rfl)
        · exact Or.inr ⟨_, tE_ref hx⟩
      exact W.mono (fun t q => tQ.of q) (W.aret (v := tE 2 x) (rt := rt) hC.1 hC.2.1 (by rw [hC.2.2.2.2.2.2.2.2.2.2.1]; exact hr) hrt hv (fun t ht hw => tEnd hC.2.2.2.2.2.2.1 h2 h3 (by rw [hr]; simp [tO, hk]) t ht) h3.2.2 hd hC.2.2.2.2.2.2.2.2.2.1)
theorem s_vret (hd : decode (tM.cc E) pc = .ok (.return_, 1)) (hr : tM.rt E = none) : tSd E pc lt [] o_retv :=
  tSd.stop fun L S h r hB hS hL => by
    match S, hB, hS with
    | [], hB, hS =>
      cases hB
      refine ⟨(false, 0), rfl, fun p l e R s m args below meth c n0 u0 hC ls H locs h1 h2 h3 => ?_⟩
      exact W.mono (fun t q => tQ.of q) (W.vret hC.1 hC.2.1 (by rw [hC.2.2.2.2.2.2.2.2.2.2.1]; exact hr) (fun t ht hw => tEnd hC.2.2.2.2.2.2.1 h2 h3 (by rw [hr]; rfl) t ht) h3.2.2 hd hC.2.2.2.2.2.2.2.2.2.1)
end TBR
