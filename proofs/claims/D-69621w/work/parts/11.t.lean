/-! T: contracts and calls -/
abbrev tFn : Type := List Int → tH → Option ((Bool × Int) × tH)
def tRm (fr lo : Nat) (h h' : tH) : Room := { frames := fr, cells := (h'.2.2.2.1 - h.2.2.2.1).toNat, slots := (h'.2.2.2.2 - h.2.2.2.2).toNat, locals := lo }
def tPre (D : tD) (b0 : Nat) (ks : List Nat) (args : List Int) (h : tH) : Array Value → State → Prop := fun a U => a = (tSt ks args).toArray ∧ tR D b0 h U.heap ∧ tK D U ∧ tKw U ∧ b0 ≤ U.heap.size ∧ tZs D b0 U U.heap
def tPost (D : tD) (b0 : Nat) (rt : Option FieldType) (h : tH) (o : Bool × Int) (h' : tH) : Array Value → State → Outcome → State → Prop := fun _ st oc t =>
  oc = tO rt o ∧ tR D b0 h' t.heap ∧ st.WarmedH t.vm ∧ (∀ q : Nat, q < b0 → t.heap[q]? = st.heap[q]?) ∧ ∃ Ls : List Loc, st.sameButNew ({ t with vm := st.vm } : State) Ls (h'.2.2.2.1 - h.2.2.2.1).toNat (h'.2.2.2.2 - h.2.2.2.2).toNat ∧ ∀ q ∈ Ls, b0 ≤ q.base
/-- a method's contract: what F says, the machine does -/
def tMX (D : tD) (b0 : Nat) (y : MethodName) (ws : List Cond) (rt : Option FieldType) (ks : List Nat) (fr lo : Nat) (F : tFn) : Prop :=
  ∀ (l : Launch) (args : List Int) (h : tH) (o : Bool × Int) (h' : tH), F args h = some (o, h') → args.length = ks.length →
    (h.2.2.2.1 ≤ h'.2.2.2.1 ∧ h.2.2.2.2 ≤ h'.2.2.2.2) ∧
    (l.stackTraces = false → MetFree l y (headSpec ws (tRm fr lo h h')) (tPre D b0 ks args h) (fun _ _ _ _ _ => True) (tPost D b0 rt h o h'))
theorem tKw.vm {s U : State} (hv : s.vm = U.vm) (h : tKw s) : tKw U := by
  intro w hw hx
  have h1 := h w hw hx
  have ha : s.vm.Alike U.vm := by rw [hv]; exact Vm.Alike.refl _
  cases w with
  | fieldLinkNest a b c d e f => exact va_Nw.same rfl hv h1
  | methodLinkNest a b c d => exact va_Nw.same rfl hv h1
  | castable a b => exact va_Nw.same rfl hv h1
  | declares a => exact va_Nw.same rfl hv h1
  | privateMethod x => exact va_Nw.same rfl hv h1
  | arrayOver ty =>
    cases ty with
    | object C => exact va_AO.moved ha h1
    | array t => exact va_AOA.moved ha h1
    | _ => exact absurd h1 (by unfold va_Nw Cond.before Cond.holds; simp [Cond.value])
  | _ => cases hx
section TBK
variable {p : Program} {l : Launch} {e : Env} {R : Room} {s : State} {m : MethodId} {args : Array Value} {below : List Frame} {meth : Method} {c : Code} {T : State} {locs : List Loc} {cells slots : Nat}
/-- where a call leaves the caller -/
def tAfter (T' : State) (g : JFrame) (len : Nat) (rt : Option FieldType) (o : Bool × Int) : State := match o.1 with
  | false => T'.setTop { g with pc := g.pc + len, stack := (rt.map fun t => tE (kdF t) o.2).toList ++ g.stack }
  | true => (T'.setTop g).pushFrame (.throwing (o.2 - 1).toNat)
theorem tBack (X : Stand p l e R s m args below meth c T locs cells slots) {D : tD} {b0 : Nat} {y : MethodName} {ws : List Cond} {rt : Option FieldType} {ks : List Nat} {fr lo maxL W len : Nat} {F : tFn} (hM : tMX D b0 y ws rt ks fr lo F)
    {as : List Int} {h h' : tH} {o : Bool × Int} (hF : F as h = some (o, h')) (hlen : as.length = ks.length)
    (hfr : fr + 1 ≤ R.frames) (hlo : W + (maxL + 11) + lo ≤ R.locals) (hcs : cells + (h'.2.2.2.1 - h.2.2.2.1).toNat ≤ R.cells) (hss : slots + (h'.2.2.2.2 - h.2.2.2.2).toNat ≤ R.slots)
    (hws : ∀ w ∈ ws, w.before (tSt ks as).toArray T = true) (hini : (Cond.initialized y.cls).before (tSt ks as).toArray T = true)
    {g : JFrame} {ig : Instr} {mk : MethodId} (hg : g.method = m) (hsize : g.locals.size = c.maxLocals) (hdg : decode c.code g.pc = .ok (ig, len)) (hW : 2 * g.monitorRoom + (g.stack.map fun v => v.category).sum ≤ W) (hn : T.methodNamed? y = some mk)
    (hY : ∃ (methY : Method) (cY : Code), T.vm.method? mk = some methY ∧ methY.code = some cY ∧ cY.maxLocals = maxL)
    (hR : tR D b0 h T.heap) (hK : tK D T) (hKw : tKw T) (hb : b0 ≤ T.heap.size) (hZs : tZs D b0 T T.heap) (hl : l.stackTraces = false) :
    ∃ (T' : State) (Ls : List Loc), Stand p l e R s m args below meth c T' (locs ++ Ls) (cells + (h'.2.2.2.1 - h.2.2.2.1).toNat) (slots + (h'.2.2.2.2 - h.2.2.2.2).toNat) ∧ (∀ q ∈ Ls, b0 ≤ q.base) ∧ tR D b0 h' T'.heap ∧ (∀ q : Nat, q < b0 → T'.heap[q]? = T.heap[q]?) ∧ T.heap.size ≤ T'.heap.size ∧
      Steps p.tables e below (doInvoke e (T.setTop g) [] mk (tSt ks as).toArray).1 (tAfter T' g len rt o) := by
  obtain ⟨hmono, hMF⟩ := hM l as h o h' hF hlen
  obtain ⟨methY, cY, hmY, hcY, hlY⟩ := hY
  obtain ⟨kY, hkY, -⟩ := className_of_methodNamed hn
  have hinitY : kY.init = .initialized := Cond.initialized_spec (findClass_of_methodNamed hn) hkY hini
  have hh : At T g.method c below := by rw [hg]; exact X.here
  have happ : (headSpec ws (tRm fr lo h h')).appliesLoose y e.platform (T.calling g mk (tSt ks as).toArray) = true :=
    Spec.appliesLoose_calling (g := g) hh hdg hn hkY hinitY
      (X.room_calling (g := g) (R' := tRm fr lo h h') hsize hmY hcY hfr (by rw [hlY]; show _ + lo ≤ _; omega) hcs hss) (atoms_intro hws)
  obtain ⟨mid, hmid⟩ := hh.above
  have hfrs : (T.setTop g).frames = (.java g :: mid) ++ below := by rw [State.frames_setTop' g hh.top, hmid]; rfl
  obtain ⟨oc, s₂, hsteps, -, hend, hq⟩ := Steps.callFree (hMF hl) p X.admits X.cas X.clock (acts := []) hfrs happ ⟨rfl, hR, hK, hKw.vm (by rfl), hb, hZs.same (by rfl)⟩ trivial
  have hq' : tPost D b0 rt h o h' (tSt ks as).toArray (T.calling g mk (tSt ks as).toArray) oc s₂ := hq
  obtain ⟨rfl, hR', hW₂, hlow, Ls, hsame, hLs⟩ := hq'
  have hsz : T.heap.size ≤ s₂.heap.size := by
    have e1 := hR.1
    have e2 := hR'.1
    omega
  cases ho : o.1 with
  | true =>
    rw [State.frames_setTop' g hh.top] at hend
    have hend' : Ended s₂ (.java g :: below) (.threw (o.2 - 1).toNat) := by
      have h1 : tO rt o = .threw (o.2 - 1).toNat := by unfold tO; rw [ho]
      rw [h1, X.tail] at hend
      exact hend
    obtain ⟨T', XT, hW', hsB, ht⟩ := X.outOfThrown hg hend' hW₂ hsame
    have hheap : T'.heap = s₂.heap := by
      rw [ht]
      exact (throwing_heap T' g _).symm
    refine ⟨T', Ls, XT, hLs, by rw [hheap]; exact hR', fun q hq => by rw [hheap]; exact hlow q hq, by rw [hheap]; exact hsz, ?_⟩
    unfold tAfter
    rw [ho]
    show Steps _ _ _ _ ((T'.setTop g).pushFrame (.throwing (o.2 - 1).toNat))
    rw [← ht]
    exact hsteps
  | false =>
    have h1 : tO rt o = .returned (rt.map fun t => tE (kdF t) o.2) := by unfold tO; rw [ho]
    rw [h1, State.frames_setTop' g hh.top] at hend
    obtain ⟨e2, q2, q3, q4, q5, q6⟩ := hsame
    have e3 : s₂ = ({ (T.calling g mk (tSt ks as).toArray).setFrames s₂.frames with heap := s₂.heap, slotsUsed := s₂.slotsUsed } : State).setVm s₂.vm := by
      have : s₂ = ({ s₂ with vm := (T.calling g mk (tSt ks as).toArray).vm } : State).setVm s₂.vm := rfl
      rw [e2] at this
      exact this
    obtain ⟨c₂, i₂, len₂, hc₂, hd₂, hf₂⟩ := hend
    have hW' : T.WarmedH s₂.vm := hW₂
    have hcc : c₂ = c := by
      have h1 : s₂.code? g.method = T.code? g.method := by
        rw [State.code?_eq, State.code?_eq, hW'.alike.method?]
      exact Option.some.inj (hc₂.symm.trans (h1.trans hh.code))
    subst hcc
    have hlen2 : len₂ = len := by rw [hdg] at hd₂; cases hd₂; rfl
    subst hlen2
    obtain ⟨g₀, hg0⟩ := Option.isSome_iff_exists.mp hh.top
    obtain ⟨r, hr⟩ := State.topJava?_eq_some.mp hg0
    have hs₂ : s₂ = (({ T with heap := s₂.heap, slotsUsed := s₂.slotsUsed } : State).setVm s₂.vm).setTop { g with pc := g.pc + len₂, stack := (rt.map fun t => tE (kdF t) o.2).toList ++ g.stack } := by
      have hr' : (({ T with heap := s₂.heap, slotsUsed := s₂.slotsUsed } : State).setVm s₂.vm).frames = .java g₀ :: r := hr
      refine e3.trans ?_
      rw [hf₂, State.calling_eq hh.top, State.setFrames_setFrames, State.setTop_of_frames _ hr', hr]
      rfl
    have hsame : T.sameButNew ({ T with heap := s₂.heap, slotsUsed := s₂.slotsUsed } : State) Ls (h'.2.2.2.1 - h.2.2.2.1).toNat (h'.2.2.2.2 - h.2.2.2.2).toNat := by
      refine ⟨?_, q2, q3, q4, q5, q6⟩
      obtain ⟨t, ht, -⟩ := State.frames_cons hr
      show ({ T with heap := s₂.heap, slotsUsed := s₂.slotsUsed } : State) = { T.setFrames T.frames with heap := s₂.heap, slotsUsed := s₂.slotsUsed }
      rw [State.setFrames_self ht]
    subst hg
    refine ⟨(({ T with heap := s₂.heap, slotsUsed := s₂.slotsUsed } : State).setVm s₂.vm), Ls,
      ⟨X.admits, X.cas, X.clock, X.frames, X.room, X.hears, X.method, X.code, (X.here.setHeapUsed s₂.heap s₂.slotsUsed).setVm hW'.alike, X.tail, State.WarmedH.trans X.warmed hW', X.limits, X.bytes, X.same.trans (hsame.setVm s.vm)⟩, hLs, hR', hlow, hsz, ?_⟩
    unfold tAfter
    rw [ho]
    show Steps _ _ _ _ ((({ T with heap := s₂.heap, slotsUsed := s₂.slotsUsed } : State).setVm s₂.vm).setTop { g with pc := g.pc + len₂, stack := (rt.map fun t => tE (kdF t) o.2).toList ++ g.stack })
    rw [← hs₂]
    exact hsteps
end TBK
