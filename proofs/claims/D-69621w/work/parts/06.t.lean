/-! T: fields and arrays -/
theorem tR.ptr {D : tD} {b0 : Nat} {h : tH} {H : Heap} (hR : tR D b0 h H) {p : Int} (hp : h.2.2.1 p < 2000) : ∃ a : Nat, p = (a : Int) + 1 ∧ a < H.size ∧ b0 ≤ a ∧ tOK D h a H := by
  obtain ⟨a, h1, h2, h3, h4⟩ := hR.2.1 p (by omega)
  exact ⟨a, h1, h2, h3 hp, h4⟩
theorem tR.obj {D : tD} {b0 : Nat} {h : tH} {H : Heap} (hR : tR D b0 h H) {p : Int} {c : Nat} {q : vw_C} (hc : c < 1000) (hp : h.2.2.1 p = c) (hq : xcl c = some q) : ∃ a : Nat, p = (a : Int) + 1 ∧ a < H.size ∧ b0 ≤ a ∧ t_OB a (D.1 c) q.2.2 (D.2.1 c) H (fun k => tE (kdF (xty c k)) (h.1.1 p k)) := by
  obtain ⟨a, h1, h2, h3, h4⟩ := hR.ptr (p := p) (by omega)
  subst h1
  exact ⟨a, rfl, h2, h3, h4.1 c q hp hq⟩
theorem tR.arr {D : tD} {b0 : Nat} {h : tH} {H : Heap} (hR : tR D b0 h H) {p : Int} {k : Nat} {ty : FieldType} (hc : k < 1000) (hp : h.2.2.1 p = 1000 + k) (hq : xar k = some ty) : ∃ a : Nat, p = (a : Int) + 1 ∧ a < H.size ∧ b0 ≤ a ∧ 0 ≤ h.2.1 p ∧ h.2.1 p < 2147483648 ∧ H[a]? = some (arrV (D.2.2 k) (h.2.1 p).toNat (fun j => tE (kdF ty) (h.1.2 p j))) := by
  obtain ⟨a, h1, h2, h3, h4⟩ := hR.ptr (p := p) (by omega)
  subst h1
  obtain ⟨g1, g2, g3⟩ := h4.2 k ty hp hq
  exact ⟨a, rfl, h2, h3, g1, g2, g3⟩
theorem tR.objO {D : tD} {b0 : Nat} {h : tH} {H : Heap} (hR : tR D b0 h H) {p : Int} {c : Nat} {q : vw_C} (hc : c < 3000) (hp : h.2.2.1 p = c) (hq : xcl c = some q) : ∃ a : Nat, p = (a : Int) + 1 ∧ a < H.size ∧ t_OB a (D.1 c) q.2.2 (D.2.1 c) H (fun k => tE (kdF (xty c k)) (h.1.1 p k)) := by
  obtain ⟨a, h1, h2, h3, h4⟩ := hR.2.1 p (by omega)
  subst h1
  exact ⟨a, rfl, h2, h4.1 c q hp hq⟩
theorem tR.arrO {D : tD} {b0 : Nat} {h : tH} {H : Heap} (hR : tR D b0 h H) {p : Int} {k : Nat} {ty : FieldType} (hc : k < 2000) (hp : h.2.2.1 p = 1000 + k) (hq : xar k = some ty) : ∃ a : Nat, p = (a : Int) + 1 ∧ a < H.size ∧ 0 ≤ h.2.1 p ∧ h.2.1 p < 2147483648 ∧ H[a]? = some (arrV (D.2.2 k) (h.2.1 p).toNat (fun j => tE (kdF ty) (h.1.2 p j))) := by
  obtain ⟨a, h1, h2, h3, h4⟩ := hR.2.1 p (by omega)
  subst h1
  obtain ⟨g1, g2, g3⟩ := h4.2 k ty hp hq
  exact ⟨a, rfl, h2, g1, g2, g3⟩
def o_getf (c k : Nat) (K : tB) : tB := fun L S h => match S with
  | p :: S' => if h.2.2.1 p = c then K L (h.1.1 p k :: S') h else none
  | _ => none
def tPut (h : tH) (p k v : Int) : tH := ((fun q j => if q = p ∧ j = k then v else h.1.1 q j, h.1.2), h.2)
def tPutA (h : tH) (p k v : Int) : tH := ((h.1.1, fun q j => if q = p ∧ j = k then v else h.1.2 q j), h.2)
def okF (t : FieldType) (v : Int) : Bool := match t with
  | .boolean => decide (v = 0 ∨ v = 1)
  | .byte => decide (-128 ≤ v ∧ v ≤ 127)
  | .int => true
  | .long => true
  | .object _ => true
  | .array _ => true
  | _ => false
def o_putf (c k : Nat) (K : tB) : tB := fun L S h => match S with
  | v :: p :: S' => if h.2.2.1 p = c ∧ okF (xty c k) v = true then K L S' (tPut h p k v) else none
  | _ => none
def o_ald (t : Nat) (K : tB) : tB := fun L S h => match S with
  | i :: p :: S' => if h.2.2.1 p = 1000 + t ∧ 0 ≤ i ∧ i < h.2.1 p then K L (h.1.2 p i :: S') h else none
  | _ => none
def o_ast (t : Nat) (ok : tH → Int → Bool) (K : tB) : tB := fun L S h => match S with
  | v :: i :: p :: S' => if h.2.2.1 p = 1000 + t ∧ 0 ≤ i ∧ i < h.2.1 p ∧ ok h v = true then K L S' (tPutA h p i v) else none
  | _ => none
def o_alen (t : Nat) (K : tB) : tB := fun L S h => match S with
  | p :: S' => if h.2.2.1 p = 1000 + t then K L (h.2.1 p :: S') h else none
  | _ => none
theorem okF_spec {t : FieldType} {v : Int} (h : okF t v = true) : narrow t (tE (kdF t) v) = tE (kdF t) v ∧ fits t (tE (kdF t) v) = true := by
  cases t with
  | boolean =>
    have h1 : v = 0 ∨ v = 1 := of_decide_eq_true h
    rcases h1 with rfl | rfl <;> exact ⟨by decide +kernel, by decide +kernel⟩
  | byte =>
    have h1 : -128 ≤ v ∧ v ≤ 127 := of_decide_eq_true h
    have h2 : (Int32.ofInt v).toInt8.toInt32 = Int32.ofInt v := by
      apply Int32.toInt_inj.mp
      rw [Int8.toInt_toInt32, Int32.toInt_toInt8, t32 ⟨by omega, by omega⟩]
      exact Int.bmod_eq_of_le (by omega) (by omega)
    refine ⟨?_, ?_⟩
    · show narrow .byte (.int (Int32.ofInt v)) = .int (Int32.ofInt v)
      show Value.int (Int32.ofInt v).toInt8.toInt32 = _
      rw [h2]
    · show fits .byte (.int (Int32.ofInt v)) = true
      rw [← h2]
      exact pk_fb _
  | int => exact ⟨rfl, rfl⟩
  | long => exact ⟨rfl, rfl⟩
  | object n =>
    by_cases hv : v = 0
    · subst hv; exact ⟨rfl, rfl⟩
    · show narrow _ (tE 2 v) = tE 2 v ∧ fits _ (tE 2 v) = true
      rw [tE_ref hv]; exact ⟨rfl, rfl⟩
  | array n =>
    by_cases hv : v = 0
    · subst hv; exact ⟨rfl, rfl⟩
    · show narrow _ (tE 2 v) = tE 2 v ∧ fits _ (tE 2 v) = true
      rw [tE_ref hv]; exact ⟨rfl, rfl⟩
  | _ => cases h
