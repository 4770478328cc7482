/-! THE LAYER: an abstract heap of total maps, what it says of the machine's heap, and the judgement AW: the machine, at a frame and over the heap that G describes, comes to what the pure value x says. References are numbers, 0 is null, n + 1 is the cell n. -/
abbrev GP : Type := (Nat → Nat) × Nat
/-- ((next address, slots), class or array kind, length, int fields, reference fields, int elements, reference elements, long elements, double elements) -/
abbrev AH : Type := (Nat × Nat) × (Nat → Nat) × (Nat → Nat) × (Nat → Nat → Int32) × (Nat → Nat → Nat) × (Nat → Nat → Int32) × (Nat → Nat → Nat) × (Nat → Nat → Int64) × (Nat → Nat → UInt64)
def hS (G : AH) : Nat := G.1.1
def hM (G : AH) : Nat := G.1.2
def hK (G : AH) : Nat → Nat := G.2.1
def hL (G : AH) : Nat → Nat := G.2.2.1
def hI (G : AH) : Nat → Nat → Int32 := G.2.2.2.1
def hR (G : AH) : Nat → Nat → Nat := G.2.2.2.2.1
def hA (G : AH) : Nat → Nat → Int32 := G.2.2.2.2.2.1
def hQ (G : AH) : Nat → Nat → Nat := G.2.2.2.2.2.2.1
def hJ (G : AH) : Nat → Nat → Int64 := G.2.2.2.2.2.2.2.1
def hD (G : AH) : Nat → Nat → UInt64 := G.2.2.2.2.2.2.2.2
/-- a two-place map with one place set -/
def u2 {α : Type} (f : Nat → Nat → α) (a b : Nat) (v : α) : Nat → Nat → α := fun x y => if x = a ∧ y = b then v else f x y
/-- .. with a whole row set -/
def ur {α : Type} (f : Nat → Nat → α) (a : Nat) (g : Nat → α) : Nat → Nat → α := fun x => if x = a then g else f x
/-- .. with a whole column set -/
def uc {α : Type} (f : Nat → Nat → α) (b : Nat) (v : α) : Nat → Nat → α := fun x y => if y = b then v else f x y
def u1 {α : Type} (f : Nat → α) (a : Nat) (v : α) : Nat → α := fun x => if x = a then v else f x
def sI (G : AH) (f a : Nat) (v : Int32) : AH := (G.1, hK G, hL G, u2 (hI G) f a v, hR G, hA G, hQ G, hJ G, hD G)
def sR (G : AH) (f a : Nat) (v : Nat) : AH := (G.1, hK G, hL G, hI G, u2 (hR G) f a v, hA G, hQ G, hJ G, hD G)
def sA (G : AH) (a i : Nat) (v : Int32) : AH := (G.1, hK G, hL G, hI G, hR G, u2 (hA G) a i v, hQ G, hJ G, hD G)
def sQ (G : AH) (a i : Nat) (v : Nat) : AH := (G.1, hK G, hL G, hI G, hR G, hA G, u2 (hQ G) a i v, hJ G, hD G)
def sJ (G : AH) (a i : Nat) (v : Int64) : AH := (G.1, hK G, hL G, hI G, hR G, hA G, hQ G, u2 (hJ G) a i v, hD G)
def sD (G : AH) (a i : Nat) (v : UInt64) : AH := (G.1, hK G, hL G, hI G, hR G, hA G, hQ G, hJ G, u2 (hD G) a i v)
/-- a whole int array's (or reference array's) contents set -/
def sAr (G : AH) (a : Nat) (g : Nat → Int32) : AH := (G.1, hK G, hL G, hI G, hR G, ur (hA G) a g, hQ G, hJ G, hD G)
def sQr (G : AH) (a : Nat) (g : Nat → Nat) : AH := (G.1, hK G, hL G, hI G, hR G, hA G, ur (hQ G) a g, hJ G, hD G)
/-- a new object of class c, of n slots, at hS G -/
def nO (G : AH) (c n : Nat) : AH := ((hS G + 1, hM G + n), u1 (hK G) (hS G) c, hL G, uc (hI G) (hS G) 0, uc (hR G) (hS G) 0, hA G, hQ G, hJ G, hD G)
/-- a new array of kind k, of n places, at hS G -/
def nA (G : AH) (k n : Nat) : AH := ((hS G + 1, hM G + n), u1 (hK G) (hS G) k, u1 (hL G) (hS G) n, hI G, hR G, ur (hA G) (hS G) (fun _ => 0), ur (hQ G) (hS G) (fun _ => 0), ur (hJ G) (hS G) (fun _ => 0), ur (hD G) (hS G) (fun _ => 0))
/-- a reference on the machine -/
def rv : Nat → Value
  | 0 => .null
  | n + 1 => .ref n
/-- an abstract value on the machine -/
def cv : Value → Value
  | .ref n => rv n
  | .null => .null
  | .int v => .int v
  | .long v => .long v
  | .float v => .float v
  | .double v => .double v
  | .retAddr p => .retAddr p
theorem rv_cat (n : Nat) : (rv n).category = 1 := by cases n <;> rfl
theorem cv_cat (v : Value) : (cv v).category = v.category := by
  cases v <;> first | rfl | exact rv_cat _
theorem rv_pos {n : Nat} (h : n ≠ 0) : rv n = .ref (n - 1) := by
  cases n with
  | zero => exact absurd rfl h
  | succ n => rfl
theorem rv_inj {a b : Nat} (h : rv a = rv b) : a = b := by
  cases a <;> cases b <;> simp [rv] at h ⊢ <;> exact h
def lvc (lv : List (Nat × Value)) : List (Nat × Value) := lv.map (fun q => (q.1, cv q.2))
theorem lvc_filter (i : Nat) (lv : List (Nat × Value)) : (lvc lv).filter (fun q => !(q.1 == i) && !(q.1 + 1 == i && q.2.category == 2)) = lvc (lv.filter (fun q => !(q.1 == i) && !(q.1 + 1 == i && q.2.category == 2))) := by
  unfold lvc
  rw [List.filter_map]
  congr 1
  refine List.filter_congr (fun q _ => ?_)
  simp [Function.comp, cv_cat]
/-- fields that are references -/
def fRf (f : Nat) : Bool := (fTy f).isReference
/-- what the field f of a holds, on the machine -/
def fv (G : AH) (f a : Nat) : Value := if fRf f then rv (hR G f a) else .int (hI G f a)
/-- array kinds -/
def aTy : Nat → FieldType
  | 101 => .int
  | 102 => .byte
  | 103 => .char
  | 104 => .long
  | 105 => .double
  | 106 => .object "java/lang/Object"
  | 107 => .object "java/lang/Integer"
  | _ => .boolean
def aNm (k : Nat) : String := if k = 102 then "[B" else "[Ljava/lang/Object;"
def av (G : AH) (k a i : Nat) : Value := if k = 104 then .long (hJ G a i) else if k = 105 then .double (hD G a i) else if k = 106 ∨ k = 107 then rv (hQ G a i) else .int (hA G a i)
/-- the machine's cell for a, an object of class c -/
def ObOK (γ : GP) (U : State) (G : AH) (H : Heap) (a c : Nat) : Prop :=
  ∃ cell : Cell, H[a - 1]? = some cell ∧ U.vm.findClass (cN c) = some cell.cls ∧ cell.vm ≠ .unknown ∧ cell.vm.isStatics = false ∧ (γ.2 < a → cell.vm = .none ∧ cell.monitor.owner = none ∧ cell.monitor.count = 0) ∧
    ∀ f ∈ cFl c, ∃ (cf : ClassId) (k : Class) (i : Nat) (fd : Field), U.fieldFound? (fO f) (fN f) (fDs f) = some (cf, k, i, fd) ∧ fd.isStatic = false ∧ cell.slots[fd.slot]? = some (fv G f a)
/-- .. an array of kind k -/
def ArOK (U : State) (G : AH) (H : Heap) (a k : Nat) : Prop :=
  ∃ cell : Cell, H[a - 1]? = some cell ∧ U.isArrayOf cell (aTy k) ∧ cell.vm ≠ .unknown ∧ cell.slots.size = hL G a ∧ (∀ i : Nat, i < hL G a → cell.slots[i]? = some (av G k a i) ∧ fits (aTy k) (av G k a i) = true) ∧
    (k = 106 → ∃ (kA : Class) (comp : ClassId) (kc : Class), U.vm.classes[cell.cls]? = some kA ∧ kA.kind = .array comp (.object "java/lang/Object") ∧ U.vm.findClass "java/lang/Object" = some comp ∧ U.vm.classes[comp]? = some kc) ∧
    (k = 102 ∨ k = 106 → U.vm.findClass (aNm k) = some cell.cls)
def Rep (γ : GP) (U : State) (G : AH) (H : Heap) : Prop :=
  H.size + 1 = hS G ∧ γ.2 ≤ H.size ∧ ∀ a : Nat, hK G a ≠ 0 → 0 < a ∧ (hK G a < 100 → ObOK γ U G H a (hK G a)) ∧ (100 ≤ hK G a → ArOK U G H a (hK G a))
theorem Rep.lt {γ : GP} {U : State} {G : AH} {H : Heap} (h : Rep γ U G H) {a : Nat} (ha : hK G a ≠ 0) : a - 1 < H.size ∧ 0 < a ∧ a < hS G := by
  obtain ⟨h1, h0, h2⟩ := h
  obtain ⟨h3, h4, h5⟩ := h2 a ha
  have h6 : a - 1 < H.size := by
    rcases Nat.lt_or_ge (hK G a) 100 with h | h
    · obtain ⟨cell, q, -⟩ := h4 h
      exact (Array.getElem?_eq_some_iff.mp q).1
    · obtain ⟨cell, q, -⟩ := h5 h
      exact (Array.getElem?_eq_some_iff.mp q).1
  omega
theorem found_moved {u U : State} (hvm : u.vm.Alike U.vm) {C f d : String} {cf : ClassId} {k : Class} {i : Nat} {fd : Field} (h : u.fieldFound? C f d = some (cf, k, i, fd)) : ∃ k', U.fieldFound? C f d = some (cf, k', i, fd) := by
  obtain ⟨k', h', -⟩ := State.fieldFound?_setVm (s := u) hvm h
  exact ⟨k', h'⟩
theorem ObOK.moved {γ : GP} {u U : State} (hvm : u.vm.Alike U.vm) {G : AH} {H : Heap} {a c : Nat} (h : ObOK γ u G H a c) : ObOK γ U G H a c := by
  obtain ⟨cell, h1, h2, h3, h4, h5, h6⟩ := h
  refine ⟨cell, h1, by rw [hvm.findClass]; exact h2, h3, h4, h5, fun f hf => ?_⟩
  obtain ⟨cf, k, i, fd, g1, g2, g3⟩ := h6 f hf
  obtain ⟨k', g4⟩ := found_moved hvm g1
  exact ⟨cf, k', i, fd, g4, g2, g3⟩
theorem ArOK.moved {u U : State} (hvm : u.vm.Alike U.vm) {G : AH} {H : Heap} {a c : Nat} (h : ArOK u G H a c) : ArOK U G H a c := by
  obtain ⟨cell, h1, h2, h3, h4, h5, h6, h7⟩ := h
  refine ⟨cell, h1, State.isArrayOf_alike hvm h2, h3, h4, h5, fun hk => ?_, fun hk => by rw [hvm.findClass]; exact h7 hk⟩
  obtain ⟨kA, comp, kc, g1, g2, g3, g4⟩ := h6 hk
  obtain ⟨k1, e1, e2⟩ := hvm.2.2 _ _ g1
  obtain ⟨k2, e3, e4⟩ := hvm.2.2 _ _ g4
  exact ⟨k1, comp, k2, e1, by rw [e2]; exact g2, by rw [hvm.findClass]; exact g3, e3⟩
theorem Rep.moved {γ : GP} {u U : State} (hvm : u.vm.Alike U.vm) {G : AH} {H : Heap} (h : Rep γ u G H) : Rep γ U G H :=
  ⟨h.1, h.2.1, fun a ha => ⟨(h.2.2 a ha).1, fun q => ((h.2.2 a ha).2.1 q).moved hvm, fun q => ((h.2.2 a ha).2.2 q).moved hvm⟩⟩
/-- words that no reader of steady words carries, but that stay -/
def mvw : Cond → Bool
  | .castable _ _ => true
  | .declares _ => true
  | .methodLinkNest _ _ _ _ => true
  | .fieldLinkNest _ _ _ _ _ _ => true
  | .arrayOver (.object _) => true
  | .privateMethod _ => true
  | _ => false
def lw_mv : List Cond := lw_tbl.filter mvw
theorem va_Nw.warmP {y : MethodName} {s U : State} (hW : s.WarmedH U.vm) (h : va_Nw (.privateMethod y) s) : va_Nw (.privateMethod y) U := by
  have e1 : U.methodNamed? y = s.methodNamed? y := by
    rw [State.methodNamed?_of_vm (U := U) (V := s.setVm U.vm) rfl]
    exact State.methodNamed?_setVm hW.alike _
  have e2 : U.vm.method? = s.vm.method? := funext fun m => hW.alike.method? m
  unfold va_Nw at *
  simp only [Cond.before, Cond.holds, Cond.value, e1, e2] at *
  exact h
theorem mv_warm {w : Cond} {s U : State} (hm : mvw w = true) (hW : s.WarmedH U.vm) (h : va_Nw w s) : va_Nw w U := by
  unfold mvw at hm
  split at hm
  · exact va_Nw.warmC hW h
  · exact va_Nw.warmD hW h
  · exact va_Nw.warmM hW h
  · exact va_Nw.warmF hW h
  · exact va_AO.moved hW.alike h
  · exact va_Nw.warmP hW h
  · cases hm
/-- the launch's statics cells that exceptions need -/
def sLS : List (String × String × String) := [("java/lang/Throwable", "UNASSIGNED_STACK", "[Ljava/lang/StackTraceElement;"), ("java/lang/Throwable", "SUPPRESSED_SENTINEL", "Ljava/util/List;")]
def LayS (O f d : String) (γ : GP) (U : State) (H : Heap) : Prop := ∃ (c : ClassId) (k : Class) (i : Nat) (fd : Field) (a : Addr) (cell : Cell), U.vm.findClass O = some c ∧ U.fieldFound? O f d = some (c, k, i, fd) ∧ fd.isStatic = true ∧ k.statics = some a ∧ H[a]? = some cell ∧ cell.vm.isStatics = true ∧ cell.cls = c ∧ fd.slot < cell.slots.size ∧ k.staticTypes[fd.slot]? = some fd.type ∧ ¬ γ.2 ≤ a
theorem LayS.moved {O f d : String} {γ : GP} {u U : State} {H : Heap} (hvm : u.vm.Alike U.vm) (h : LayS O f d γ u H) : LayS O f d γ U H := by
  obtain ⟨c, k, i, fd, a, cell, h0, h1, h2, h3, h4, h5, h6, h7, h8, h9⟩ := h
  obtain ⟨k', hi', he⟩ := State.fieldFound?_setVm hvm h1
  exact ⟨c, k', i, fd, a, cell, by rw [hvm.findClass]; exact h0, hi', h2, by rw [he]; exact h3, h4, h5, h6, h7, by rw [he]; exact h8, h9⟩
theorem LayS.kept {O f d : String} {γ : GP} {U : State} {H H1 : Heap} (h : LayS O f d γ U H) (hq : ∀ a : Nat, a < H.size → ¬ γ.2 ≤ a → H1[a]? = H[a]?) : LayS O f d γ U H1 := by
  obtain ⟨c, k, i, fd, a, cell, h0, h1, h2, h3, h4, h5, h6, h7, h8, h9⟩ := h
  exact ⟨c, k, i, fd, a, cell, h0, h1, h2, h3, by rw [hq a (Array.getElem?_eq_some_iff.mp h4).1 h9]; exact h4, h5, h6, h7, h8, h9⟩
theorem LayS.word {O f d : String} {γ : GP} {s : State} (h : LayS O f d γ s s.heap) (args : Array Value) : (Cond.laysStatic O f d).before args s = true := by
  obtain ⟨c, k, i, fd, a, cell, h0, h1, h2, h3, h4, h5, h6, h7, h8, h9⟩ := h
  simp only [Cond.before, Cond.holds, Cond.value, h0, h1, h3, Option.bind_some, h4, Option.map_some, h2, h5, h6]
  simp [h7, h8]
/-- what holds of the launch's constants: the steady words; the statics, the Strings and the mirrors of the tables sT, sTI, sS, sMi, at the addresses γ.1 -/
def Glob (γ : GP) (U : State) (H : Heap) : Prop :=
  (∀ w ∈ lw_mv, va_Nw w U) ∧
  (∀ q ∈ sTR, va_Z q.2.1 q.2.2.1 q.2.2.2 (rv (γ.1 q.1)) (fun a => γ.2 ≤ a) U H) ∧
  (∀ q ∈ sTI, va_Z q.2.1 q.2.2.1 q.2.2.2 (.int q.1) (fun a => γ.2 ≤ a) U H) ∧
  (∀ q ∈ sST, 0 < γ.1 q.1 ∧ vk_R q.2.1 q.2.2.1 q.2.2.2 (γ.1 q.1 - 1) U) ∧
  (∀ q ∈ sMI, 0 < γ.1 q.1 ∧ va_Mi q.2 (γ.1 q.1 - 1) U) ∧
  (∀ q ∈ sNC, va_Nc q.1 q.2 U) ∧
  (∀ q ∈ sFW, (q.2.1.cls ≠ "java/lang/invoke/MethodHandle" ∧ q.2.1.cls ≠ "java/lang/invoke/VarHandle") ∧ va_Fw q.1 q.2.1 q.2.2 U) ∧
  (∀ q ∈ sLS, LayS q.1 q.2.1 q.2.2 γ U H)
theorem Glob.warm {γ : GP} {s U : State} {H : Heap} (hW : s.WarmedH U.vm) (h : Glob γ s H) : Glob γ U H :=
  ⟨fun w hw => mv_warm (List.mem_filter.mp hw).2 hW (h.1 w hw), fun q hq => (h.2.1 q hq).moved hW.alike, fun q hq => (h.2.2.1 q hq).moved hW.alike, fun q hq => ⟨(h.2.2.2.1 q hq).1, (h.2.2.2.1 q hq).2.warm hW⟩, fun q hq => ⟨(h.2.2.2.2.1 q hq).1, (h.2.2.2.2.1 q hq).2.moved hW.alike⟩, fun q hq => (h.2.2.2.2.2.1 q hq).moved hW.alike, fun q hq => ⟨(h.2.2.2.2.2.2.1 q hq).1, (h.2.2.2.2.2.2.1 q hq).2.moved (h.2.2.2.2.2.2.1 q hq).1 hW.alike⟩, fun q hq => (h.2.2.2.2.2.2.2 q hq).moved hW.alike⟩
theorem Glob.kept {γ : GP} {U : State} {H H1 : Heap} (h : Glob γ U H) (hq : ∀ a : Nat, a < H.size → ¬ γ.2 ≤ a → H1[a]? = H[a]?) : Glob γ U H1 :=
  ⟨h.1, fun q hq1 => (h.2.1 q hq1).kept hq, fun q hq1 => (h.2.2.1 q hq1).kept hq, h.2.2.2.1, h.2.2.2.2.1, h.2.2.2.2.2.1, h.2.2.2.2.2.2.1, fun q hq1 => (h.2.2.2.2.2.2.2 q hq1).kept hq⟩
/-- own class, code, locals, answer, name, handlers, depth -/
abbrev CK : Type := String × ByteArray × Nat × Option FieldType × String × List (Nat × Nat × Nat × Nat) × Nat
abbrev Af (γ : GP) : Nat → Prop := fun q => γ.2 ≤ q
/-- what a method's body knows of where it runs -/
def Cx (γ : GP) (k : CK) (p : Program) (R : Room) (s : State) (m : MethodId) (args : Array Value) (meth : Method) (c : Code) : Prop :=
  p.tables.exec = Jvm.exec ∧ c.code = k.2.1 ∧ c.maxLocals = k.2.2.1 ∧ meth.sig.returnType = k.2.2.2.1 ∧ meth.locks = false ∧ s.vm.findClass k.1 = some m.cls ∧ meth.name = k.2.2.2.2.1 ∧ c.exceptionTable.toList = tableOf k.2.2.2.2.2.1 ∧
  (∀ w ∈ lw_all, w.before args s = true) ∧ Glob γ s s.heap ∧ k.2.2.2.2.2.2 ≤ R.frames ∧ 64 * k.2.2.2.2.2.2 ≤ R.locals
/-- an end: an answer or a thrown object, and the heap -/
abbrev EN : Type := (Option Value ⊕ Nat) × AH
def QR (γ : GP) (o : EN) : Array Value → State → Outcome → State → Prop := fun _ st oc t => ∃ v, o.1 = .inl v ∧ oc = .returned (v.map cv) ∧ Rep γ t o.2 t.heap ∧ va_F (Af γ) st t
def XR (γ : GP) (o : EN) : String → Addr → State → State → Prop := fun E q st t => o.1 = .inr (q + 1) ∧ E = cN (hK o.2 (q + 1)) ∧ hK o.2 (q + 1) < 100 ∧ hK o.2 (q + 1) ≠ 0 ∧ Rep γ t o.2 t.heap ∧ va_F (Af γ) st t
section AWs
variable {α : Type} (ρ : α → EN) (γ : GP) (l : Launch) (k : CK) (G0 : AH)
/-- from the frame (pc, locals lv, stack st) over the heap G the body comes to its end as x says, within the room that x shows -/
def AW (pc : Nat) (lv : List (Nat × Value)) (st : List Value) (G : AH) (x : Option α) : Prop :=
  ∀ r : α, x = some r → (hS G ≤ hS (ρ r).2 ∧ hM G ≤ hM (ρ r).2) ∧
    ∀ (p : Program) (e : Env) (R : Room) (s : State) (m : MethodId) (args : Array Value) (below : List Frame) (meth : Method) (c : Code) (H : Heap) (locs : List Loc) (ls : Array Slot),
      Cx γ k p R s m args meth c → hS (ρ r).2 - hS G0 ≤ R.cells → hM (ρ r).2 - hM G0 ≤ R.slots → s.heap.size + 1 = hS G0 → hM G0 ≤ hM G → Rep γ s G H → va_S (Af γ) s.heap H locs → lv_has ls k.2.2.1 (lvc lv) →
      W p l e R s m args below meth c H locs (hS G - hS G0) (hM G - hM G0) (vx_MQ below (QR γ (ρ r)) (XR γ (ρ r)) args s (hS (ρ r).2 - hS G0) (hM (ρ r).2 - hM G0) (Af γ)) (F0 m pc ls (st.map cv))
end AWs
section AWr
variable {α : Type} {ρ : α → EN} {γ : GP} {l : Launch} {k : CK} {G0 G : AH} {pc pc' : Nat} {lv lv' : List (Nat × Value)} {st st' : List Value} {x : Option α}
theorem AW_none : AW ρ γ l k G0 pc lv st G none := fun r h => by cases h
theorem AW_pure (h : ∀ (p : Program) (e : Env) (R : Room) (s : State) (m : MethodId) (args : Array Value) (below : List Frame) (meth : Method) (c : Code) (H : Heap) (locs : List Loc) (ls : Array Slot) (cells slots : Nat) (Q : State → Prop), Cx γ k p R s m args meth c → lv_has ls k.2.2.1 (lvc lv) →
      (∀ ls' : Array Slot, lv_has ls' k.2.2.1 (lvc lv') → W p l e R s m args below meth c H locs cells slots Q (F0 m pc' ls' (st'.map cv))) → W p l e R s m args below meth c H locs cells slots Q (F0 m pc ls (st.map cv)))
    (kk : AW ρ γ l k G0 pc' lv' st' G x) : AW ρ γ l k G0 pc lv st G x := fun r hr =>
  ⟨(kk r hr).1, fun p e R s m args below meth c H locs ls C h1 h2 h3 h4 hP hV hl => h p e R s m args below meth c H locs ls _ _ _ C hl (fun ls' hl' => (kk r hr).2 p e R s m args below meth c H locs ls' C h1 h2 h3 h4 hP hV hl')⟩
theorem AW_chk {P : Prop} [Decidable P] (h : P → AW ρ γ l k G0 pc lv st G x) : AW ρ γ l k G0 pc lv st G (if P then x else none) := by
  intro r hr
  by_cases hP : P
  · rw [if_pos hP] at hr
    exact h hP r hr
  · rw [if_neg hP] at hr
    cases hr
theorem AW_sub (js : List Nat) (hj : js.filterMap (fun j => lv[j]?) = lv') (kk : AW ρ γ l k G0 pc lv' st G x) : AW ρ γ l k G0 pc lv st G x :=
  AW_pure (fun _ _ _ _ _ _ _ _ _ _ _ ls _ _ _ _ hl w => w ls (lv_sub hl js (by
    subst hj
    unfold lv_pick lvc
    rw [List.map_filterMap]
    refine congrArg (fun f => List.filterMap f js) (funext fun j => ?_)
    simp))) kk
theorem lvc_at {ls : Array Slot} {n : Nat} {lv : List (Nat × Value)} (h : lv_has ls n (lvc lv)) (j : Nat) {i : Nat} {v : Value} (hj : lv[j]? = some (i, v)) : ls[i]? = some (.val (cv v)) :=
  lv_at h j (by unfold lvc; rw [List.getElem?_map, hj]; rfl)
theorem r_inl {β : Type} {ρ2 : β → EN} {f : α → β} (hf : ∀ r, ρ2 (f r) = ρ r) {r : α} (kk : AW ρ γ l k G0 pc lv st G (some r)) : AW ρ2 γ l k G0 pc lv st G (some (f r)) := by
  intro r' h
  cases h
  have := kk r rfl
  rw [hf]
  exact this
/-- the two ends of a branch -/
theorem AW_br {P : Prop} [Decidable P] {y : Option α} {pa pb : Nat}
    (h : ∀ (p : Program) (e : Env) (R : Room) (s : State) (m : MethodId) (args : Array Value) (below : List Frame) (meth : Method) (c : Code) (H : Heap) (locs : List Loc) (ls : Array Slot) (cells slots : Nat) (Q : State → Prop), Cx γ k p R s m args meth c →
      (P → W p l e R s m args below meth c H locs cells slots Q (F0 m pa ls (st'.map cv))) → (¬ P → W p l e R s m args below meth c H locs cells slots Q (F0 m pb ls (st'.map cv))) → W p l e R s m args below meth c H locs cells slots Q (F0 m pc ls (st.map cv)))
    (kt : AW ρ γ l k G0 pa lv st' G x) (kf : AW ρ γ l k G0 pb lv st' G y) : AW ρ γ l k G0 pc lv st G (if P then x else y) := by
  intro r hr
  by_cases hP : P
  · rw [if_pos hP] at hr
    exact ⟨(kt r hr).1, fun p e R s m args below meth c H locs ls C h1 h2 h3 h4 hR hV hl => h p e R s m args below meth c H locs ls _ _ _ C (fun _ => (kt r hr).2 p e R s m args below meth c H locs ls C h1 h2 h3 h4 hR hV hl) (fun q => absurd hP q)⟩
  · rw [if_neg hP] at hr
    exact ⟨(kf r hr).1, fun p e R s m args below meth c H locs ls C h1 h2 h3 h4 hR hV hl => h p e R s m args below meth c H locs ls _ _ _ C (fun q => absurd q hP) (fun _ => (kf r hr).2 p e R s m args below meth c H locs ls C h1 h2 h3 h4 hR hV hl)⟩
theorem r_iconst {n : Int} {v : Int32} (hd : decode k.2.1 pc = .ok (.iconst n, 1)) (hv : Int32.ofInt n = v) (kk : AW ρ γ l k G0 (pc + 1) lv (.int v :: st) G x) : AW ρ γ l k G0 pc lv (st) G x := AW_pure (fun _ _ _ _ _ _ _ _ _ _ _ ls _ _ _ C hl w => lv_iconst (C.1) (C.2.1) hd hv (w ls hl)) kk
theorem r_bipush {n : Int} {v : Int32} (hd : decode k.2.1 pc = .ok (.bipush n, 2)) (hv : (Int8.ofInt n).toInt32 = v) (kk : AW ρ γ l k G0 (pc + 2) lv (.int v :: st) G x) : AW ρ γ l k G0 pc lv (st) G x := AW_pure (fun _ _ _ _ _ _ _ _ _ _ _ ls _ _ _ C hl w => lv_bipush (C.1) (C.2.1) hd hv (w ls hl)) kk
theorem r_sipush {n : Int} {v : Int32} (hd : decode k.2.1 pc = .ok (.sipush n, 3)) (hv : (Int16.ofInt n).toInt32 = v) (kk : AW ρ γ l k G0 (pc + 3) lv (.int v :: st) G x) : AW ρ γ l k G0 pc lv (st) G x := AW_pure (fun _ _ _ _ _ _ _ _ _ _ _ ls _ _ _ C hl w => lv_sipush (C.1) (C.2.1) hd hv (w ls hl)) kk
theorem r_null  (hd : decode k.2.1 pc = .ok (.aconst_null, 1))  (kk : AW ρ γ l k G0 (pc + 1) lv (.ref 0 :: st) G x) : AW ρ γ l k G0 pc lv (st) G x := AW_pure (fun _ _ _ _ _ _ _ _ _ _ _ ls _ _ _ C hl w => lv_null (C.1) (C.2.1) hd (w ls hl)) kk
theorem r_ldci {idx : Nat} {v : Int32} (hd : decode k.2.1 pc = .ok (.ldc idx, 2)) (hq : Cond.constant k.1 idx v ∈ lw_all) (kk : AW ρ γ l k G0 (pc + 2) lv (.int v :: st) G x) : AW ρ γ l k G0 pc lv (st) G x := AW_pure (fun _ _ _ _ _ _ _ _ _ _ _ ls _ _ _ C hl w => lv_ldc (C.1) (C.2.1) C.2.2.2.2.2.1 (C.2.2.2.2.2.2.2.2.1 _ hq) hd (w ls hl)) kk
theorem r_ldcwi {idx : Nat} {v : Int32} (hd : decode k.2.1 pc = .ok (.ldc_w idx, 3)) (hq : Cond.constant k.1 idx v ∈ lw_all) (kk : AW ρ γ l k G0 (pc + 3) lv (.int v :: st) G x) : AW ρ γ l k G0 pc lv (st) G x := AW_pure (fun _ _ _ _ _ _ _ _ _ _ _ ls _ _ _ C hl w => lv_ldcw (C.1) (C.2.1) C.2.2.2.2.2.1 (C.2.2.2.2.2.2.2.2.1 _ hq) hd (w ls hl)) kk
theorem r_iload_n {n : Fin 4} {i : Nat} {y : Int32} (hd : decode k.2.1 pc = .ok (.iload_n n, 1)) (hi : (n : Nat) = i) (j : Nat) (hj : lv[j]? = some (i, .int y)) (kk : AW ρ γ l k G0 (pc + 1) lv (.int y :: st) G x) : AW ρ γ l k G0 pc lv (st) G x := AW_pure (fun _ _ _ _ _ _ _ _ _ _ _ ls _ _ _ C hl w => lv_iload_n (C.1) (C.2.1) hd hi (lvc_at hl j hj) (w ls hl)) kk
theorem r_iload {i : Nat} {y : Int32} (hd : decode k.2.1 pc = .ok (.iload i, 2)) (j : Nat) (hj : lv[j]? = some (i, .int y)) (kk : AW ρ γ l k G0 (pc + 2) lv (.int y :: st) G x) : AW ρ γ l k G0 pc lv (st) G x := AW_pure (fun _ _ _ _ _ _ _ _ _ _ _ ls _ _ _ C hl w => lv_iload (C.1) (C.2.1) hd (lvc_at hl j hj) (w ls hl)) kk
theorem r_lload_n {n : Fin 4} {i : Nat} {y : Int64} (hd : decode k.2.1 pc = .ok (.lload_n n, 1)) (hi : (n : Nat) = i) (j : Nat) (hj : lv[j]? = some (i, .long y)) (kk : AW ρ γ l k G0 (pc + 1) lv (.long y :: st) G x) : AW ρ γ l k G0 pc lv (st) G x := AW_pure (fun _ _ _ _ _ _ _ _ _ _ _ ls _ _ _ C hl w => lv_lload_n (C.1) (C.2.1) hd hi (lvc_at hl j hj) (w ls hl)) kk
theorem r_lload {i : Nat} {y : Int64} (hd : decode k.2.1 pc = .ok (.lload i, 2)) (j : Nat) (hj : lv[j]? = some (i, .long y)) (kk : AW ρ γ l k G0 (pc + 2) lv (.long y :: st) G x) : AW ρ γ l k G0 pc lv (st) G x := AW_pure (fun _ _ _ _ _ _ _ _ _ _ _ ls _ _ _ C hl w => lv_lload (C.1) (C.2.1) hd (lvc_at hl j hj) (w ls hl)) kk
theorem r_fload_n {n : Fin 4} {i : Nat} {y : UInt32} (hd : decode k.2.1 pc = .ok (.fload_n n, 1)) (hi : (n : Nat) = i) (j : Nat) (hj : lv[j]? = some (i, .float y)) (kk : AW ρ γ l k G0 (pc + 1) lv (.float y :: st) G x) : AW ρ γ l k G0 pc lv (st) G x := AW_pure (fun _ _ _ _ _ _ _ _ _ _ _ ls _ _ _ C hl w => lv_fload_n (C.1) (C.2.1) hd hi (lvc_at hl j hj) (w ls hl)) kk
theorem r_fload {i : Nat} {y : UInt32} (hd : decode k.2.1 pc = .ok (.fload i, 2)) (j : Nat) (hj : lv[j]? = some (i, .float y)) (kk : AW ρ γ l k G0 (pc + 2) lv (.float y :: st) G x) : AW ρ γ l k G0 pc lv (st) G x := AW_pure (fun _ _ _ _ _ _ _ _ _ _ _ ls _ _ _ C hl w => lv_fload (C.1) (C.2.1) hd (lvc_at hl j hj) (w ls hl)) kk
theorem r_dload_n {n : Fin 4} {i : Nat} {y : UInt64} (hd : decode k.2.1 pc = .ok (.dload_n n, 1)) (hi : (n : Nat) = i) (j : Nat) (hj : lv[j]? = some (i, .double y)) (kk : AW ρ γ l k G0 (pc + 1) lv (.double y :: st) G x) : AW ρ γ l k G0 pc lv (st) G x := AW_pure (fun _ _ _ _ _ _ _ _ _ _ _ ls _ _ _ C hl w => lv_dload_n (C.1) (C.2.1) hd hi (lvc_at hl j hj) (w ls hl)) kk
theorem r_dload {i : Nat} {y : UInt64} (hd : decode k.2.1 pc = .ok (.dload i, 2)) (j : Nat) (hj : lv[j]? = some (i, .double y)) (kk : AW ρ γ l k G0 (pc + 2) lv (.double y :: st) G x) : AW ρ γ l k G0 pc lv (st) G x := AW_pure (fun _ _ _ _ _ _ _ _ _ _ _ ls _ _ _ C hl w => lv_dload (C.1) (C.2.1) hd (lvc_at hl j hj) (w ls hl)) kk
theorem r_aload_n {n : Fin 4} {i y : Nat} (hd : decode k.2.1 pc = .ok (.aload_n n, 1)) (hi : (n : Nat) = i) (j : Nat) (hj : lv[j]? = some (i, .ref y)) (kk : AW ρ γ l k G0 (pc + 1) lv (.ref y :: st) G x) : AW ρ γ l k G0 pc lv st G x := by
  cases y with
  | zero => exact AW_pure (fun _ _ _ _ _ _ _ _ _ _ _ ls _ _ _ C hl w => lv_aload_nN (C.1) (C.2.1) hd hi (lvc_at hl j hj) (w ls hl)) kk
  | succ y => exact AW_pure (fun _ _ _ _ _ _ _ _ _ _ _ ls _ _ _ C hl w => lv_aload_n (C.1) (C.2.1) hd hi (lvc_at hl j hj) (w ls hl)) kk
theorem r_aload {i y : Nat} (hd : decode k.2.1 pc = .ok (.aload i, 2)) (j : Nat) (hj : lv[j]? = some (i, .ref y)) (kk : AW ρ γ l k G0 (pc + 2) lv (.ref y :: st) G x) : AW ρ γ l k G0 pc lv st G x := by
  cases y with
  | zero => exact AW_pure (fun _ _ _ _ _ _ _ _ _ _ _ ls _ _ _ C hl w => lv_aloadN (C.1) (C.2.1) hd (lvc_at hl j hj) (w ls hl)) kk
  | succ y => exact AW_pure (fun _ _ _ _ _ _ _ _ _ _ _ ls _ _ _ C hl w => lv_aload (C.1) (C.2.1) hd (lvc_at hl j hj) (w ls hl)) kk
theorem lvc_put {i : Nat} {v : Value} {lv lv' : List (Nat × Value)} (h : (i, v) :: lv.filter (fun q => !(q.1 == i) && !(q.1 + 1 == i && q.2.category == 2)) = lv') : (i, cv v) :: (lvc lv).filter (fun q => !(q.1 == i) && !(q.1 + 1 == i && q.2.category == 2)) = lvc lv' := by
  subst h
  rw [lvc_filter]
  rfl
theorem lvc_filter2 (i : Nat) (lv : List (Nat × Value)) : (lvc lv).filter (fun q => !(q.1 == i) && (!(q.1 == i + 1) && !(q.1 + 1 == i && q.2.category == 2))) = lvc (lv.filter (fun q => !(q.1 == i) && (!(q.1 == i + 1) && !(q.1 + 1 == i && q.2.category == 2)))) := by
  unfold lvc
  rw [List.filter_map]
  congr 1
  refine List.filter_congr (fun q _ => ?_)
  simp [Function.comp, cv_cat]
theorem lvc_put2 {i : Nat} {v : Value} {lv lv' : List (Nat × Value)} (h : (i, v) :: lv.filter (fun q => !(q.1 == i) && (!(q.1 == i + 1) && !(q.1 + 1 == i && q.2.category == 2))) = lv') : (i, cv v) :: (lvc lv).filter (fun q => !(q.1 == i) && (!(q.1 == i + 1) && !(q.1 + 1 == i && q.2.category == 2))) = lvc lv' := by
  subst h
  rw [lvc_filter2]
  rfl
theorem r_istore_n {n : Fin 4} {i : Nat} {y : Int32} (hd : decode k.2.1 pc = .ok (.istore_n n, 1)) (hi : (n : Nat) = i) (hn : i < k.2.2.1) (hv : (i, Value.int y) :: lv.filter (fun q => !(q.1 == i) && !(q.1 + 1 == i && q.2.category == 2)) = lv') (kk : AW ρ γ l k G0 (pc + 1) lv' (st) G x) : AW ρ γ l k G0 pc lv (.int y :: st) G x := AW_pure (fun _ _ _ _ _ _ _ _ _ _ _ ls _ _ _ C hl w => lv_istore_n (C.1) (C.2.1) hd hi hl hn (lvc_put hv) w) kk
theorem r_istore {i : Nat} {y : Int32} (hd : decode k.2.1 pc = .ok (.istore i, 2)) (hn : i < k.2.2.1) (hv : (i, Value.int y) :: lv.filter (fun q => !(q.1 == i) && !(q.1 + 1 == i && q.2.category == 2)) = lv') (kk : AW ρ γ l k G0 (pc + 2) lv' (st) G x) : AW ρ γ l k G0 pc lv (.int y :: st) G x := AW_pure (fun _ _ _ _ _ _ _ _ _ _ _ ls _ _ _ C hl w => lv_istore (C.1) (C.2.1) hd hl hn (lvc_put hv) w) kk
theorem r_fstore_n {n : Fin 4} {i : Nat} {y : UInt32} (hd : decode k.2.1 pc = .ok (.fstore_n n, 1)) (hi : (n : Nat) = i) (hn : i < k.2.2.1) (hv : (i, Value.float y) :: lv.filter (fun q => !(q.1 == i) && !(q.1 + 1 == i && q.2.category == 2)) = lv') (kk : AW ρ γ l k G0 (pc + 1) lv' (st) G x) : AW ρ γ l k G0 pc lv (.float y :: st) G x := AW_pure (fun _ _ _ _ _ _ _ _ _ _ _ ls _ _ _ C hl w => lv_fstore_n (C.1) (C.2.1) hd hi hl hn (lvc_put hv) w) kk
theorem r_fstore {i : Nat} {y : UInt32} (hd : decode k.2.1 pc = .ok (.fstore i, 2)) (hn : i < k.2.2.1) (hv : (i, Value.float y) :: lv.filter (fun q => !(q.1 == i) && !(q.1 + 1 == i && q.2.category == 2)) = lv') (kk : AW ρ γ l k G0 (pc + 2) lv' (st) G x) : AW ρ γ l k G0 pc lv (.float y :: st) G x := AW_pure (fun _ _ _ _ _ _ _ _ _ _ _ ls _ _ _ C hl w => lv_fstore (C.1) (C.2.1) hd hl hn (lvc_put hv) w) kk
theorem r_lstore_n {n : Fin 4} {i : Nat} {y : Int64} (hd : decode k.2.1 pc = .ok (.lstore_n n, 1)) (hi : (n : Nat) = i) (hn : i + 1 < k.2.2.1) (hv : (i, Value.long y) :: lv.filter (fun q => !(q.1 == i) && (!(q.1 == i + 1) && !(q.1 + 1 == i && q.2.category == 2))) = lv') (kk : AW ρ γ l k G0 (pc + 1) lv' (st) G x) : AW ρ γ l k G0 pc lv (.long y :: st) G x := AW_pure (fun _ _ _ _ _ _ _ _ _ _ _ ls _ _ _ C hl w => lv_lstore_n (C.1) (C.2.1) hd hi hl hn (lvc_put2 hv) w) kk
theorem r_lstore {i : Nat} {y : Int64} (hd : decode k.2.1 pc = .ok (.lstore i, 2)) (hn : i + 1 < k.2.2.1) (hv : (i, Value.long y) :: lv.filter (fun q => !(q.1 == i) && (!(q.1 == i + 1) && !(q.1 + 1 == i && q.2.category == 2))) = lv') (kk : AW ρ γ l k G0 (pc + 2) lv' (st) G x) : AW ρ γ l k G0 pc lv (.long y :: st) G x := AW_pure (fun _ _ _ _ _ _ _ _ _ _ _ ls _ _ _ C hl w => lv_lstore (C.1) (C.2.1) hd hl hn (lvc_put2 hv) w) kk
theorem r_dstore_n {n : Fin 4} {i : Nat} {y : UInt64} (hd : decode k.2.1 pc = .ok (.dstore_n n, 1)) (hi : (n : Nat) = i) (hn : i + 1 < k.2.2.1) (hv : (i, Value.double y) :: lv.filter (fun q => !(q.1 == i) && (!(q.1 == i + 1) && !(q.1 + 1 == i && q.2.category == 2))) = lv') (kk : AW ρ γ l k G0 (pc + 1) lv' (st) G x) : AW ρ γ l k G0 pc lv (.double y :: st) G x := AW_pure (fun _ _ _ _ _ _ _ _ _ _ _ ls _ _ _ C hl w => lv_dstore_n (C.1) (C.2.1) hd hi hl hn (lvc_put2 hv) w) kk
theorem r_dstore {i : Nat} {y : UInt64} (hd : decode k.2.1 pc = .ok (.dstore i, 2)) (hn : i + 1 < k.2.2.1) (hv : (i, Value.double y) :: lv.filter (fun q => !(q.1 == i) && (!(q.1 == i + 1) && !(q.1 + 1 == i && q.2.category == 2))) = lv') (kk : AW ρ γ l k G0 (pc + 2) lv' (st) G x) : AW ρ γ l k G0 pc lv (.double y :: st) G x := AW_pure (fun _ _ _ _ _ _ _ _ _ _ _ ls _ _ _ C hl w => lv_dstore (C.1) (C.2.1) hd hl hn (lvc_put2 hv) w) kk
theorem r_astore_n {n : Fin 4} {i y : Nat} (hd : decode k.2.1 pc = .ok (.astore_n n, 1)) (hi : (n : Nat) = i) (hn : i < k.2.2.1) (hv : (i, Value.ref y) :: lv.filter (fun q => !(q.1 == i) && !(q.1 + 1 == i && q.2.category == 2)) = lv') (kk : AW ρ γ l k G0 (pc + 1) lv' st G x) : AW ρ γ l k G0 pc lv (.ref y :: st) G x := by
  cases y with
  | zero => exact AW_pure (fun _ _ _ _ _ _ _ _ _ _ _ ls _ _ _ C hl w => lv_astore_nN (C.1) (C.2.1) hd hi hl hn (lvc_put hv) w) kk
  | succ y => exact AW_pure (fun _ _ _ _ _ _ _ _ _ _ _ ls _ _ _ C hl w => lv_astore_n (C.1) (C.2.1) hd hi hl hn (lvc_put hv) w) kk
theorem r_astore {i y : Nat} (hd : decode k.2.1 pc = .ok (.astore i, 2)) (hn : i < k.2.2.1) (hv : (i, Value.ref y) :: lv.filter (fun q => !(q.1 == i) && !(q.1 + 1 == i && q.2.category == 2)) = lv') (kk : AW ρ γ l k G0 (pc + 2) lv' st G x) : AW ρ γ l k G0 pc lv (.ref y :: st) G x := by
  cases y with
  | zero => exact AW_pure (fun _ _ _ _ _ _ _ _ _ _ _ ls _ _ _ C hl w => lv_astoreN (C.1) (C.2.1) hd hl hn (lvc_put hv) w) kk
  | succ y => exact AW_pure (fun _ _ _ _ _ _ _ _ _ _ _ ls _ _ _ C hl w => lv_astore (C.1) (C.2.1) hd hl hn (lvc_put hv) w) kk
theorem r_iinc {i j : Nat} {n : Int} {y v : Int32} (hd : decode k.2.1 pc = .ok (.iinc i n, 3)) (hj : lv[j]? = some (i, .int y)) (hx : y + Int32.ofInt n = v) (hn : i < k.2.2.1) (hv : (i, Value.int v) :: lv.filter (fun q => !(q.1 == i) && !(q.1 + 1 == i && q.2.category == 2)) = lv') (kk : AW ρ γ l k G0 (pc + 3) lv' st G x) : AW ρ γ l k G0 pc lv st G x := AW_pure (fun _ _ _ _ _ _ _ _ _ _ _ ls _ _ _ C hl w => lv_iinc (C.1) (C.2.1) hd hl (k := j) (by unfold lvc; rw [List.getElem?_map, hj]; rfl) hx hn (lvc_put hv) w) kk
theorem r_iadd {a b : Int32} (hd : decode k.2.1 pc = .ok (.iadd, 1))  (kk : AW ρ γ l k G0 (pc + 1) lv (.int (a + b) :: st) G x) : AW ρ γ l k G0 pc lv (.int b :: .int a :: st) G x := AW_pure (fun _ _ _ _ _ _ _ _ _ _ _ ls _ _ _ C hl w => lv_iadd (C.1) (C.2.1) hd (w ls hl)) kk
theorem r_isub {a b : Int32} (hd : decode k.2.1 pc = .ok (.isub, 1))  (kk : AW ρ γ l k G0 (pc + 1) lv (.int (a - b) :: st) G x) : AW ρ γ l k G0 pc lv (.int b :: .int a :: st) G x := AW_pure (fun _ _ _ _ _ _ _ _ _ _ _ ls _ _ _ C hl w => lv_isub (C.1) (C.2.1) hd (w ls hl)) kk
theorem r_imul {a b : Int32} (hd : decode k.2.1 pc = .ok (.imul, 1))  (kk : AW ρ γ l k G0 (pc + 1) lv (.int (a * b) :: st) G x) : AW ρ γ l k G0 pc lv (.int b :: .int a :: st) G x := AW_pure (fun _ _ _ _ _ _ _ _ _ _ _ ls _ _ _ C hl w => lv_imul (C.1) (C.2.1) hd (w ls hl)) kk
theorem r_iand {a b : Int32} (hd : decode k.2.1 pc = .ok (.iand, 1))  (kk : AW ρ γ l k G0 (pc + 1) lv (.int (a &&& b) :: st) G x) : AW ρ γ l k G0 pc lv (.int b :: .int a :: st) G x := AW_pure (fun _ _ _ _ _ _ _ _ _ _ _ ls _ _ _ C hl w => lv_iand (C.1) (C.2.1) hd (w ls hl)) kk
theorem r_ior {a b : Int32} (hd : decode k.2.1 pc = .ok (.ior, 1))  (kk : AW ρ γ l k G0 (pc + 1) lv (.int (a ||| b) :: st) G x) : AW ρ γ l k G0 pc lv (.int b :: .int a :: st) G x := AW_pure (fun _ _ _ _ _ _ _ _ _ _ _ ls _ _ _ C hl w => lv_ior (C.1) (C.2.1) hd (w ls hl)) kk
theorem r_ixor {a b : Int32} (hd : decode k.2.1 pc = .ok (.ixor, 1))  (kk : AW ρ γ l k G0 (pc + 1) lv (.int (a ^^^ b) :: st) G x) : AW ρ γ l k G0 pc lv (.int b :: .int a :: st) G x := AW_pure (fun _ _ _ _ _ _ _ _ _ _ _ ls _ _ _ C hl w => lv_ixor (C.1) (C.2.1) hd (w ls hl)) kk
theorem r_ishl {a b : Int32} (hd : decode k.2.1 pc = .ok (.ishl, 1))  (kk : AW ρ γ l k G0 (pc + 1) lv (.int (a <<< (b &&& 31)) :: st) G x) : AW ρ γ l k G0 pc lv (.int b :: .int a :: st) G x := AW_pure (fun _ _ _ _ _ _ _ _ _ _ _ ls _ _ _ C hl w => lv_ishl (C.1) (C.2.1) hd (w ls hl)) kk
theorem r_ishr {a b : Int32} (hd : decode k.2.1 pc = .ok (.ishr, 1))  (kk : AW ρ γ l k G0 (pc + 1) lv (.int (a >>> (b &&& 31)) :: st) G x) : AW ρ γ l k G0 pc lv (.int b :: .int a :: st) G x := AW_pure (fun _ _ _ _ _ _ _ _ _ _ _ ls _ _ _ C hl w => lv_ishr (C.1) (C.2.1) hd (w ls hl)) kk
theorem r_iushr {a b : Int32} (hd : decode k.2.1 pc = .ok (.iushr, 1))  (kk : AW ρ γ l k G0 (pc + 1) lv (.int ((a.toUInt32 >>> (b.toUInt32 &&& Int32.toUInt32 31)).toInt32) :: st) G x) : AW ρ γ l k G0 pc lv (.int b :: .int a :: st) G x := AW_pure (fun _ _ _ _ _ _ _ _ _ _ _ ls _ _ _ C hl w => lv_iushr (C.1) (C.2.1) hd rfl (w ls hl)) kk
theorem r_ineg {a : Int32} (hd : decode k.2.1 pc = .ok (.ineg, 1))  (kk : AW ρ γ l k G0 (pc + 1) lv (.int (-a) :: st) G x) : AW ρ γ l k G0 pc lv (.int a :: st) G x := AW_pure (fun _ _ _ _ _ _ _ _ _ _ _ ls _ _ _ C hl w => lv_ineg (C.1) (C.2.1) hd (w ls hl)) kk
theorem r_i2l {a : Int32} (hd : decode k.2.1 pc = .ok (.i2l, 1))  (kk : AW ρ γ l k G0 (pc + 1) lv (.long (a.toInt64) :: st) G x) : AW ρ γ l k G0 pc lv (.int a :: st) G x := AW_pure (fun _ _ _ _ _ _ _ _ _ _ _ ls _ _ _ C hl w => lv_i2l (C.1) (C.2.1) hd rfl (w ls hl)) kk
theorem r_i2b {a : Int32} (hd : decode k.2.1 pc = .ok (.i2b, 1))  (kk : AW ρ γ l k G0 (pc + 1) lv (.int (a.toInt8.toInt32) :: st) G x) : AW ρ γ l k G0 pc lv (.int a :: st) G x := AW_pure (fun _ _ _ _ _ _ _ _ _ _ _ ls _ _ _ C hl w => lv_i2b (C.1) (C.2.1) hd rfl (w ls hl)) kk
theorem r_i2c {a : Int32} (hd : decode k.2.1 pc = .ok (.i2c, 1))  (kk : AW ρ γ l k G0 (pc + 1) lv (.int ((a.toUInt32 % 65536).toInt32) :: st) G x) : AW ρ γ l k G0 pc lv (.int a :: st) G x := AW_pure (fun _ _ _ _ _ _ _ _ _ _ _ ls _ _ _ C hl w => lv_i2c (C.1) (C.2.1) hd rfl (w ls hl)) kk
theorem r_i2d {a : Int32} (hd : decode k.2.1 pc = .ok (.i2d, 1))  (kk : AW ρ γ l k G0 (pc + 1) lv (.double (FP.i2d a) :: st) G x) : AW ρ γ l k G0 pc lv (.int a :: st) G x := AW_pure (fun _ _ _ _ _ _ _ _ _ _ _ ls _ _ _ C hl w => lv_i2d (C.1) (C.2.1) hd (w ls hl)) kk
theorem r_i2f {a : Int32} (hd : decode k.2.1 pc = .ok (.i2f, 1))  (kk : AW ρ γ l k G0 (pc + 1) lv (.float (FP.i2f a) :: st) G x) : AW ρ γ l k G0 pc lv (.int a :: st) G x := AW_pure (fun _ _ _ _ _ _ _ _ _ _ _ ls _ _ _ C hl w => lv_i2f (C.1) (C.2.1) hd (w ls hl)) kk
theorem r_lcmp {a b : Int64} (hd : decode k.2.1 pc = .ok (.lcmp, 1))  (kk : AW ρ γ l k G0 (pc + 1) lv (.int (lg_cmp a b) :: st) G x) : AW ρ γ l k G0 pc lv (.long b :: .long a :: st) G x := AW_pure (fun _ _ _ _ _ _ _ _ _ _ _ ls _ _ _ C hl w => W.lcmp (C.1) (C.2.1) hd (w ls hl)) kk
theorem r_dcmp {a b : UInt64} {op : CmpOp} (hd : decode k.2.1 pc = .ok (.dcmp op, 1))  (kk : AW ρ γ l k G0 (pc + 1) lv (.int (Op.cmpValue (FP.dcmp a b) op) :: st) G x) : AW ρ γ l k G0 pc lv (.double b :: .double a :: st) G x := AW_pure (fun _ _ _ _ _ _ _ _ _ _ _ ls _ _ _ C hl w => lv_dcmp (C.1) (C.2.1) hd (w ls hl)) kk
theorem r_idiv {a b : Int32} (hd : decode k.2.1 pc = .ok (.idiv, 1)) (kk : AW ρ γ l k G0 (pc + 1) lv (.int (a / b) :: st) G x) : AW ρ γ l k G0 pc lv (.int b :: .int a :: st) G (if ¬ b = 0 then x else none) := AW_chk (fun hc => AW_pure (fun _ _ _ _ _ _ _ _ _ _ _ ls _ _ _ C hl w => lv_idiv (C.1) (C.2.1) hd hc (w ls hl)) kk)
theorem r_irem {a b : Int32} (hd : decode k.2.1 pc = .ok (.irem, 1)) (kk : AW ρ γ l k G0 (pc + 1) lv (.int (a - a / b * b) :: st) G x) : AW ρ γ l k G0 pc lv (.int b :: .int a :: st) G (if ¬ b = 0 then x else none) := AW_chk (fun hc => AW_pure (fun _ _ _ _ _ _ _ _ _ _ _ ls _ _ _ C hl w => lv_irem (C.1) (C.2.1) hd hc (w ls hl)) kk)
theorem r_fdiv {a b : UInt32} (hd : decode k.2.1 pc = .ok (.fdiv, 1)) (kk : AW ρ γ l k G0 (pc + 1) lv (.float (FP.fdiv a b) :: st) G x) : AW ρ γ l k G0 pc lv (.float b :: .float a :: st) G (if FP.fdiv a b &&& 0x7fffffff ≤ 0x7f800000 then x else none) := AW_chk (fun hc => AW_pure (fun _ _ _ _ _ _ _ _ _ _ _ ls _ _ _ C hl w => lv_fdiv (C.1) (C.2.1) hd hc (w ls hl)) kk)
theorem r_ddiv {a b : UInt64} (hd : decode k.2.1 pc = .ok (.ddiv, 1)) (kk : AW ρ γ l k G0 (pc + 1) lv (.double (FP.ddiv a b) :: st) G x) : AW ρ γ l k G0 pc lv (.double b :: .double a :: st) G (if FP.ddiv a b &&& 0x7fffffffffffffff ≤ 0x7ff0000000000000 then x else none) := AW_chk (fun hc => AW_pure (fun _ _ _ _ _ _ _ _ _ _ _ ls _ _ _ C hl w => lv_ddiv (C.1) (C.2.1) hd hc (w ls hl)) kk)
theorem r_f2d {a : UInt32} (hd : decode k.2.1 pc = .ok (.f2d, 1)) (kk : AW ρ γ l k G0 (pc + 1) lv (.double (FP.f2d a) :: st) G x) : AW ρ γ l k G0 pc lv (.float a :: st) G (if FP.f2d a &&& 0x7fffffffffffffff ≤ 0x7ff0000000000000 then x else none) := AW_chk (fun hc => AW_pure (fun _ _ _ _ _ _ _ _ _ _ _ ls _ _ _ C hl w => lv_f2d (C.1) (C.2.1) hd hc (w ls hl)) kk)
theorem r_dup {a : Value} (hd : decode k.2.1 pc = .ok (.dup, 1)) (ha : a.category = 1) (kk : AW ρ γ l k G0 (pc + 1) lv (a :: a :: st) G x) : AW ρ γ l k G0 pc lv (a :: st) G x := AW_pure (fun _ _ _ _ _ _ _ _ _ _ _ ls _ _ _ C hl w => lv_dup (C.1) (C.2.1) hd (by rw [cv_cat]; exact ha) (w ls hl)) kk
theorem r_pop {a : Value} (hd : decode k.2.1 pc = .ok (.pop, 1)) (ha : a.category = 1) (kk : AW ρ γ l k G0 (pc + 1) lv (st) G x) : AW ρ γ l k G0 pc lv (a :: st) G x := AW_pure (fun _ _ _ _ _ _ _ _ _ _ _ ls _ _ _ C hl w => lv_pop (C.1) (C.2.1) hd (by rw [cv_cat]; exact ha) (w ls hl)) kk
theorem r_dup_x1 {a b : Value} (hd : decode k.2.1 pc = .ok (.dup_x1, 1)) (ha : a.category = 1) (hb : b.category = 1) (kk : AW ρ γ l k G0 (pc + 1) lv (a :: b :: a :: st) G x) : AW ρ γ l k G0 pc lv (a :: b :: st) G x := AW_pure (fun _ _ _ _ _ _ _ _ _ _ _ ls _ _ _ C hl w => lv_dup_x1 (C.1) (C.2.1) hd (by rw [cv_cat]; exact ha) (by rw [cv_cat]; exact hb) (w ls hl)) kk
theorem r_dup_x2 {a b d : Value} (hd : decode k.2.1 pc = .ok (.dup_x2, 1)) (ha : a.category = 1) (hb : b.category = 1) (hc : d.category = 1) (kk : AW ρ γ l k G0 (pc + 1) lv (a :: b :: d :: a :: st) G x) : AW ρ γ l k G0 pc lv (a :: b :: d :: st) G x := AW_pure (fun _ _ _ _ _ _ _ _ _ _ _ ls _ _ _ C hl w => lv_dup_x2 (C.1) (C.2.1) hd (by rw [cv_cat]; exact ha) (by rw [cv_cat]; exact hb) (by rw [cv_cat]; exact hc) (w ls hl)) kk
theorem r_dup2 {a b : Value} (hd : decode k.2.1 pc = .ok (.dup2, 1)) (ha : a.category = 1) (hb : b.category = 1) (kk : AW ρ γ l k G0 (pc + 1) lv (a :: b :: a :: b :: st) G x) : AW ρ γ l k G0 pc lv (a :: b :: st) G x := AW_pure (fun _ _ _ _ _ _ _ _ _ _ _ ls _ _ _ C hl w => lv_dup2_11 (C.1) (C.2.1) hd (by rw [cv_cat]; exact ha) (by rw [cv_cat]; exact hb) (w ls hl)) kk
theorem r_goto {off : Int} {tgt : Nat} (hd : decode k.2.1 pc = .ok (.goto off, 3)) (ht : (pc : Int) + off = (tgt : Int)) (kk : AW ρ γ l k G0 tgt lv (st) G x) : AW ρ γ l k G0 pc lv (st) G x := AW_pure (fun _ _ _ _ _ _ _ _ _ _ _ ls _ _ _ C hl w => lv_goto (C.1) (C.2.1) hd ht (w ls hl)) kk
theorem r_if_eq {a : Int32} {off : Int} {tgt : Nat} {y : Option α} (hd : decode k.2.1 pc = .ok (.ifCond .eq off, 3)) (ht : (pc : Int) + off = (tgt : Int)) (kt : AW ρ γ l k G0 tgt lv st G x) (kf : AW ρ γ l k G0 (pc + 3) lv st G y) : AW ρ γ l k G0 pc lv (.int a :: st) G (if a = 0 then x else y) := AW_br (fun _ _ _ _ _ _ _ _ _ _ _ ls _ _ _ C a b => lv_if_eq (C.1) (C.2.1) hd ht a b) kt kf
theorem r_icmp_eq {a b : Int32} {off : Int} {tgt : Nat} {y : Option α} (hd : decode k.2.1 pc = .ok (.if_icmp .eq off, 3)) (ht : (pc : Int) + off = (tgt : Int)) (kt : AW ρ γ l k G0 tgt lv st G x) (kf : AW ρ γ l k G0 (pc + 3) lv st G y) : AW ρ γ l k G0 pc lv (.int b :: .int a :: st) G (if a = b then x else y) := AW_br (fun _ _ _ _ _ _ _ _ _ _ _ ls _ _ _ C a b => lv_icmp_eq (C.1) (C.2.1) hd ht a b) kt kf
theorem r_if_ne {a : Int32} {off : Int} {tgt : Nat} {y : Option α} (hd : decode k.2.1 pc = .ok (.ifCond .ne off, 3)) (ht : (pc : Int) + off = (tgt : Int)) (kt : AW ρ γ l k G0 (pc + 3) lv st G x) (kf : AW ρ γ l k G0 tgt lv st G y) : AW ρ γ l k G0 pc lv (.int a :: st) G (if a = 0 then x else y) := AW_br (fun _ _ _ _ _ _ _ _ _ _ _ ls _ _ _ C a b => lv_if_ne (C.1) (C.2.1) hd ht b a) kt kf
theorem r_icmp_ne {a b : Int32} {off : Int} {tgt : Nat} {y : Option α} (hd : decode k.2.1 pc = .ok (.if_icmp .ne off, 3)) (ht : (pc : Int) + off = (tgt : Int)) (kt : AW ρ γ l k G0 (pc + 3) lv st G x) (kf : AW ρ γ l k G0 tgt lv st G y) : AW ρ γ l k G0 pc lv (.int b :: .int a :: st) G (if a = b then x else y) := AW_br (fun _ _ _ _ _ _ _ _ _ _ _ ls _ _ _ C a b => lv_icmp_ne (C.1) (C.2.1) hd ht b a) kt kf
theorem r_if_lt {a : Int32} {off : Int} {tgt : Nat} {y : Option α} (hd : decode k.2.1 pc = .ok (.ifCond .lt off, 3)) (ht : (pc : Int) + off = (tgt : Int)) (kt : AW ρ γ l k G0 tgt lv st G x) (kf : AW ρ γ l k G0 (pc + 3) lv st G y) : AW ρ γ l k G0 pc lv (.int a :: st) G (if a < 0 then x else y) := AW_br (fun _ _ _ _ _ _ _ _ _ _ _ ls _ _ _ C a b => lv_if_lt (C.1) (C.2.1) hd ht a b) kt kf
theorem r_icmp_lt {a b : Int32} {off : Int} {tgt : Nat} {y : Option α} (hd : decode k.2.1 pc = .ok (.if_icmp .lt off, 3)) (ht : (pc : Int) + off = (tgt : Int)) (kt : AW ρ γ l k G0 tgt lv st G x) (kf : AW ρ γ l k G0 (pc + 3) lv st G y) : AW ρ γ l k G0 pc lv (.int b :: .int a :: st) G (if a < b then x else y) := AW_br (fun _ _ _ _ _ _ _ _ _ _ _ ls _ _ _ C a b => lv_icmp_lt (C.1) (C.2.1) hd ht a b) kt kf
theorem r_if_ge {a : Int32} {off : Int} {tgt : Nat} {y : Option α} (hd : decode k.2.1 pc = .ok (.ifCond .ge off, 3)) (ht : (pc : Int) + off = (tgt : Int)) (kt : AW ρ γ l k G0 tgt lv st G x) (kf : AW ρ γ l k G0 (pc + 3) lv st G y) : AW ρ γ l k G0 pc lv (.int a :: st) G (if 0 ≤ a then x else y) := AW_br (fun _ _ _ _ _ _ _ _ _ _ _ ls _ _ _ C a b => lv_if_ge (C.1) (C.2.1) hd ht a b) kt kf
theorem r_icmp_ge {a b : Int32} {off : Int} {tgt : Nat} {y : Option α} (hd : decode k.2.1 pc = .ok (.if_icmp .ge off, 3)) (ht : (pc : Int) + off = (tgt : Int)) (kt : AW ρ γ l k G0 tgt lv st G x) (kf : AW ρ γ l k G0 (pc + 3) lv st G y) : AW ρ γ l k G0 pc lv (.int b :: .int a :: st) G (if b ≤ a then x else y) := AW_br (fun _ _ _ _ _ _ _ _ _ _ _ ls _ _ _ C a b => lv_icmp_ge (C.1) (C.2.1) hd ht a b) kt kf
theorem r_if_gt {a : Int32} {off : Int} {tgt : Nat} {y : Option α} (hd : decode k.2.1 pc = .ok (.ifCond .gt off, 3)) (ht : (pc : Int) + off = (tgt : Int)) (kt : AW ρ γ l k G0 tgt lv st G x) (kf : AW ρ γ l k G0 (pc + 3) lv st G y) : AW ρ γ l k G0 pc lv (.int a :: st) G (if 0 < a then x else y) := AW_br (fun _ _ _ _ _ _ _ _ _ _ _ ls _ _ _ C a b => lv_if_gt (C.1) (C.2.1) hd ht a b) kt kf
theorem r_icmp_gt {a b : Int32} {off : Int} {tgt : Nat} {y : Option α} (hd : decode k.2.1 pc = .ok (.if_icmp .gt off, 3)) (ht : (pc : Int) + off = (tgt : Int)) (kt : AW ρ γ l k G0 tgt lv st G x) (kf : AW ρ γ l k G0 (pc + 3) lv st G y) : AW ρ γ l k G0 pc lv (.int b :: .int a :: st) G (if b < a then x else y) := AW_br (fun _ _ _ _ _ _ _ _ _ _ _ ls _ _ _ C a b => lv_icmp_gt (C.1) (C.2.1) hd ht a b) kt kf
theorem r_if_le {a : Int32} {off : Int} {tgt : Nat} {y : Option α} (hd : decode k.2.1 pc = .ok (.ifCond .le off, 3)) (ht : (pc : Int) + off = (tgt : Int)) (kt : AW ρ γ l k G0 tgt lv st G x) (kf : AW ρ γ l k G0 (pc + 3) lv st G y) : AW ρ γ l k G0 pc lv (.int a :: st) G (if a ≤ 0 then x else y) := AW_br (fun _ _ _ _ _ _ _ _ _ _ _ ls _ _ _ C a b => lv_if_le (C.1) (C.2.1) hd ht a b) kt kf
theorem r_icmp_le {a b : Int32} {off : Int} {tgt : Nat} {y : Option α} (hd : decode k.2.1 pc = .ok (.if_icmp .le off, 3)) (ht : (pc : Int) + off = (tgt : Int)) (kt : AW ρ γ l k G0 tgt lv st G x) (kf : AW ρ γ l k G0 (pc + 3) lv st G y) : AW ρ γ l k G0 pc lv (.int b :: .int a :: st) G (if a ≤ b then x else y) := AW_br (fun _ _ _ _ _ _ _ _ _ _ _ ls _ _ _ C a b => lv_icmp_le (C.1) (C.2.1) hd ht a b) kt kf
theorem r_ifnull {v : Nat} {off : Int} {tgt : Nat} {y : Option α} (hd : decode k.2.1 pc = .ok (.ifnull off, 3)) (ht : (pc : Int) + off = (tgt : Int)) (kt : AW ρ γ l k G0 tgt lv st G x) (kf : AW ρ γ l k G0 (pc + 3) lv st G y) : AW ρ γ l k G0 pc lv (.ref v :: st) G (if v = 0 then x else y) := by
  cases v with
  | zero => exact AW_br (fun _ _ _ _ _ _ _ _ _ _ _ ls _ _ _ C a b => lv_ifnullN (C.1) (C.2.1) hd ht (a rfl)) kt kf
  | succ n => exact AW_br (fun _ _ _ _ _ _ _ _ _ _ _ ls _ _ _ C a b => lv_ifnull (C.1) (C.2.1) hd (b (by omega))) kt kf
theorem r_ifnonnull {v : Nat} {off : Int} {tgt : Nat} {y : Option α} (hd : decode k.2.1 pc = .ok (.ifnonnull off, 3)) (ht : (pc : Int) + off = (tgt : Int)) (kt : AW ρ γ l k G0 (pc + 3) lv st G x) (kf : AW ρ γ l k G0 tgt lv st G y) : AW ρ γ l k G0 pc lv (.ref v :: st) G (if v = 0 then x else y) := by
  cases v with
  | zero => exact AW_br (fun _ _ _ _ _ _ _ _ _ _ _ ls _ _ _ C a b => lv_ifnonnullN (C.1) (C.2.1) hd (a rfl)) kt kf
  | succ n => exact AW_br (fun _ _ _ _ _ _ _ _ _ _ _ ls _ _ _ C a b => lv_ifnonnull (C.1) (C.2.1) hd ht (b (by omega))) kt kf
def ro (n : Nat) : Option Nat := if n = 0 then none else some (n - 1)
theorem ro_rf (n : Nat) : va_rf (ro n) = rv n := by cases n <;> rfl
theorem ro_inj {a b : Nat} : ro a = ro b ↔ a = b := by
  constructor
  · intro h
    cases a <;> cases b <;> simp [ro] at h ⊢
    exact h
  · intro h
    rw [h]
theorem r_acmp_eq {v w : Nat} {off : Int} {tgt : Nat} {y : Option α} (hd : decode k.2.1 pc = .ok (.if_acmp .eq off, 3)) (ht : (pc : Int) + off = (tgt : Int)) (kt : AW ρ γ l k G0 tgt lv st G x) (kf : AW ρ γ l k G0 (pc + 3) lv st G y) : AW ρ γ l k G0 pc lv (.ref w :: .ref v :: st) G (if v = w then x else y) :=
  AW_br (fun _ _ _ _ _ _ _ _ _ _ _ ls _ _ _ C a b => by
    have h := lv_acmp_eq (C.1) (C.2.1) (rx := ro v) (ry := ro w) (rest := st.map cv) hd ht (fun h => a (ro_inj.mp h)) (fun h => b (fun z => h (ro_inj.mpr z)))
    rw [ro_rf, ro_rf] at h
    exact h) kt kf
theorem r_acmp_ne {v w : Nat} {off : Int} {tgt : Nat} {y : Option α} (hd : decode k.2.1 pc = .ok (.if_acmp .ne off, 3)) (ht : (pc : Int) + off = (tgt : Int)) (kt : AW ρ γ l k G0 (pc + 3) lv st G x) (kf : AW ρ γ l k G0 tgt lv st G y) : AW ρ γ l k G0 pc lv (.ref w :: .ref v :: st) G (if v = w then x else y) :=
  AW_br (fun _ _ _ _ _ _ _ _ _ _ _ ls _ _ _ C a b => by
    have h := lv_acmp_ne (C.1) (C.2.1) (rx := ro v) (ry := ro w) (rest := st.map cv) hd ht (fun h => b (fun z => h (ro_inj.mpr z))) (fun h => a (ro_inj.mp h))
    rw [ro_rf, ro_rf] at h
    exact h) kt kf
theorem AW_case {a v : Int32} {y : Option α} {tgt : Nat} (h : ∀ (p : Program) (e : Env) (R : Room) (s : State) (m : MethodId) (args : Array Value) (below : List Frame) (meth : Method) (c : Code) (H : Heap) (locs : List Loc) (ls : Array Slot) (cells slots : Nat) (Q : State → Prop), Cx γ k p R s m args meth c →
      W p l e R s m args below meth c H locs cells slots Q (F0 m tgt ls (st.map cv)) → W p l e R s m args below meth c H locs cells slots Q (F0 m pc ls ((Value.int v :: st).map cv)))
    (kt : AW ρ γ l k G0 tgt lv st G x) (kf : ¬ a = v → AW ρ γ l k G0 pc lv (.int a :: st) G y) : AW ρ γ l k G0 pc lv (.int a :: st) G (if a = v then x else y) := by
  by_cases hP : a = v
  · rw [if_pos hP, hP]
    exact AW_pure (fun p e R s m args below meth c H locs ls cells slots Q C hl w => h p e R s m args below meth c H locs ls cells slots Q C (w ls hl)) kt
  · rw [if_neg hP]
    exact kf hP
theorem r_tabC {a v : Int32} {y : Option α} {dflt lo hi : Int} {offs : Array Int} {len tgt : Nat} {off : Int} (hd : decode k.2.1 pc = .ok (.tableswitch dflt lo hi offs, len)) (h1 : ¬ v.toInt < lo) (h2 : ¬ hi < v.toInt) (ho : offs[(v.toInt - lo).toNat]? = some off) (ht : (pc : Int) + off = (tgt : Int)) (kt : AW ρ γ l k G0 tgt lv st G x) (kf : ¬ a = v → AW ρ γ l k G0 pc lv (.int a :: st) G y) : AW ρ γ l k G0 pc lv (.int a :: st) G (if a = v then x else y) :=
  AW_case (fun _ _ _ _ _ _ _ _ _ _ _ _ _ _ _ C w => lv_tableIn (C.1) (C.2.1) hd h1 h2 ho ht w) kt kf
theorem r_tabD {a : Int32} {dflt lo hi : Int} {offs : Array Int} {len tgt : Nat} (hd : decode k.2.1 pc = .ok (.tableswitch dflt lo hi offs, len)) (h : a.toInt < lo ∨ hi < a.toInt) (ht : (pc : Int) + dflt = (tgt : Int)) (kk : AW ρ γ l k G0 tgt lv st G x) : AW ρ γ l k G0 pc lv (.int a :: st) G x := AW_pure (fun _ _ _ _ _ _ _ _ _ _ _ ls _ _ _ C hl w => lv_tableOut (C.1) (C.2.1) hd h ht (w ls hl)) kk
theorem r_lookC {a v : Int32} {y : Option α} {dflt : Int} {ps : Array (Int × Int)} {len tgt : Nat} {off : Int} (hd : decode k.2.1 pc = .ok (.lookupswitch dflt ps, len)) (hp : (ps.toList.zip (ps.toList.drop 1)).all (fun (a, next) => a.1 < next.1) = true) (ho : Op.lookupswitch.offset ps.toList dflt v.toInt = off) (ht : (pc : Int) + off = (tgt : Int)) (kt : AW ρ γ l k G0 tgt lv st G x) (kf : ¬ a = v → AW ρ γ l k G0 pc lv (.int a :: st) G y) : AW ρ γ l k G0 pc lv (.int a :: st) G (if a = v then x else y) :=
  AW_case (fun _ _ _ _ _ _ _ _ _ _ _ _ _ _ _ C w => lv_lookup (C.1) (C.2.1) hd hp ho ht w) kt kf
theorem r_lookD {a : Int32} {dflt : Int} {ps : Array (Int × Int)} {len tgt : Nat} (hd : decode k.2.1 pc = .ok (.lookupswitch dflt ps, len)) (hp : (ps.toList.zip (ps.toList.drop 1)).all (fun (a, next) => a.1 < next.1) = true) (ho : Op.lookupswitch.offset ps.toList dflt a.toInt = dflt) (ht : (pc : Int) + dflt = (tgt : Int)) (kk : AW ρ γ l k G0 tgt lv st G x) : AW ρ γ l k G0 pc lv (.int a :: st) G x := AW_pure (fun _ _ _ _ _ _ _ _ _ _ _ ls _ _ _ C hl w => lv_lookup (C.1) (C.2.1) hd hp ho ht (w ls hl)) kk
abbrev ρI (r : Int32 × AH) : EN := (.inl (some (.int r.1)), r.2)
abbrev ρR (r : Nat × AH) : EN := (.inl (some (.ref r.1)), r.2)
abbrev ρV (r : AH) : EN := (.inl none, r)
abbrev ρF (r : UInt32 × AH) : EN := (.inl (some (.float r.1)), r.2)
abbrev ρD (r : UInt64 × AH) : EN := (.inl (some (.double r.1)), r.2)
abbrev ρX {α : Type} (ρ : α → EN) (r : α ⊕ (Nat × AH)) : EN := match r with
  | .inl r => ρ r
  | .inr q => (.inr q.1, q.2)
/-- an answer of a narrow type -/
def rtN (ty : FieldType) (v : Int32) (G : AH) : Option (Int32 × AH) := if narrow ty (.int v) = .int v then some (v, G) else none
theorem r_iret {v : Int32} (hd : decode k.2.1 pc = .ok (.ireturn, 1)) (hr2 : k.2.2.2.1 = some .int) : AW ρI γ l k G0 pc lv ([.int v]) G (some (v, G)) := by
  intro r hr
  cases hr
  refine ⟨⟨Nat.le_refl _, Nat.le_refl _⟩, fun p e R s m args below meth c H locs ls C h1 h2 h3 h4 hP hV hl => vx_ret ?_⟩
  exact W.iret (v := v) (C.1) (C.2.1) (C.2.2.2.1.trans hr2) (fun t ht hW => ⟨some (.int v), rfl, rfl, by rw [ht]; exact hP.moved hW.alike, hV.F ht⟩) hV.2.2 hd (hlocks := C.2.2.2.2.1)
theorem r_zret {v : Int32} {ty : FieldType} (hd : decode k.2.1 pc = .ok (.ireturn, 1)) (hr2 : k.2.2.2.1 = some ty) : AW ρI γ l k G0 pc lv ([.int v]) G (rtN ty v G) := by
  unfold rtN
  refine AW_chk (fun hn => ?_)
  intro r hr
  cases hr
  refine ⟨⟨Nat.le_refl _, Nat.le_refl _⟩, fun p e R s m args below meth c H locs ls C h1 h2 h3 h4 hP hV hl => vx_ret ?_⟩
  exact W.zret (v := v) (ty := ty) (C.1) (C.2.1) (C.2.2.2.1.trans hr2) hn (fun t ht hW => ⟨some (.int v), rfl, rfl, by rw [ht]; exact hP.moved hW.alike, hV.F ht⟩) hV.2.2 hd (hlocks := C.2.2.2.2.1)
theorem r_fret {v : UInt32} (hd : decode k.2.1 pc = .ok (.freturn, 1)) (hr2 : k.2.2.2.1 = some .float) : AW ρF γ l k G0 pc lv ([.float v]) G (some (v, G)) := by
  intro r hr
  cases hr
  refine ⟨⟨Nat.le_refl _, Nat.le_refl _⟩, fun p e R s m args below meth c H locs ls C h1 h2 h3 h4 hP hV hl => vx_ret ?_⟩
  exact W.fret (v := v) (C.1) (C.2.1) (C.2.2.2.1.trans hr2) (fun t ht hW => ⟨some (.float v), rfl, rfl, by rw [ht]; exact hP.moved hW.alike, hV.F ht⟩) hV.2.2 hd (hlocks := C.2.2.2.2.1)
theorem r_dret {v : UInt64} (hd : decode k.2.1 pc = .ok (.dreturn, 1)) (hr2 : k.2.2.2.1 = some .double) : AW ρD γ l k G0 pc lv ([.double v]) G (some (v, G)) := by
  intro r hr
  cases hr
  refine ⟨⟨Nat.le_refl _, Nat.le_refl _⟩, fun p e R s m args below meth c H locs ls C h1 h2 h3 h4 hP hV hl => vx_ret ?_⟩
  exact W.dret (v := v) (C.1) (C.2.1) (C.2.2.2.1.trans hr2) (fun t ht hW => ⟨some (.double v), rfl, rfl, by rw [ht]; exact hP.moved hW.alike, hV.F ht⟩) hV.2.2 hd (hlocks := C.2.2.2.2.1)
theorem r_vret  (hd : decode k.2.1 pc = .ok (.return_, 1)) (hr2 : k.2.2.2.1 = none) : AW ρV γ l k G0 pc lv ([]) G (some G) := by
  intro r hr
  cases hr
  refine ⟨⟨Nat.le_refl _, Nat.le_refl _⟩, fun p e R s m args below meth c H locs ls C h1 h2 h3 h4 hP hV hl => vx_ret ?_⟩
  exact W.vret (C.1) (C.2.1) (C.2.2.2.1.trans hr2) (fun t ht hW => ⟨none, rfl, rfl, by rw [ht]; exact hP.moved hW.alike, hV.F ht⟩) hV.2.2 hd (hlocks := C.2.2.2.2.1)
theorem r_aret {v : Nat} {ty : FieldType} (hd : decode k.2.1 pc = .ok (.areturn, 1)) (hr2 : k.2.2.2.1 = some ty) (hty : (∃ n, ty = .object n) ∨ ∃ t, ty = .array t) : AW ρR γ l k G0 pc lv ([.ref v]) G (some (v, G)) := by
  intro r hr
  cases hr
  refine ⟨⟨Nat.le_refl _, Nat.le_refl _⟩, fun p e R s m args below meth c H locs ls C h1 h2 h3 h4 hP hV hl => vx_ret ?_⟩
  exact W.aret (v := rv v) (C.1) (C.2.1) (C.2.2.2.1.trans hr2) hty (by cases v with | zero => exact Or.inl rfl | succ n => exact Or.inr ⟨n, rfl⟩) (fun t ht hW => ⟨some (.ref v), rfl, rfl, by rw [ht]; exact hP.moved hW.alike, hV.F ht⟩) hV.2.2 hd (hlocks := C.2.2.2.2.1)
end AWr
