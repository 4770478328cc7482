set_option maxRecDepth 100000
theorem thr_in : ∀ w ∈ Bundle.throwableAtoms.filter goodWord, w ∈ lw_all := lw_in _ [122, 428, 437, 448, 451, 453, 429, 430, 185, 186, 431, 436, 449, 672, 418, 673, 420, 674, 422, 432, 434, 424] (by decide +kernel) (by decide +kernel)
theorem thr_at : ∀ w ∈ Bundle.throwableAtoms, w ∈ lw_all ∨ ∃ q ∈ sLS, w = Cond.laysStatic q.1 q.2.1 q.2.2 := by
  intro w hw
  cases h : goodWord w with
  | true => exact Or.inl (thr_in w (List.mem_filter.mpr ⟨hw, h⟩))
  | false =>
    have h2 : w ∈ Bundle.throwableAtoms.filter (fun w => !goodWord w) := List.mem_filter.mpr ⟨hw, by rw [h]; rfl⟩
    rw [show Bundle.throwableAtoms.filter (fun w => !goodWord w) = sLS.map (fun q => Cond.laysStatic q.1 q.2.1 q.2.2) by decide +kernel] at h2
    obtain ⟨q, hq, e⟩ := List.mem_map.mp h2
    exact Or.inr ⟨q, hq, e.symm⟩
theorem thr_back : ∀ w ∈ ([.fieldLink "java/lang/Throwable" 198 "java/lang/Throwable" "backtrace" "Ljava/lang/Object;", .lays "java/lang/Throwable" "java/lang/Throwable" "backtrace" "Ljava/lang/Object;", .sameMethod "java/lang/Throwable" "java/lang/Throwable" "fillInStackTrace" "()Ljava/lang/Throwable;"] : List Cond), w ∈ lw_all := lw_in _ [427, 426, 438] (by decide +kernel) (by decide +kernel)
/-- the classes thrown -/
def thrC : List Nat := [9, 11, 14, 24, 25, 33, 35, 36]
theorem thr_sel : ∀ w ∈ thrC.map (fun c => Cond.selects (cN c) Bundle.tFill Bundle.tFill), w ∈ lw_all := lw_in _ [443, 416, 447, 439, 446, 444, 440, 441] (by decide +kernel) (by decide +kernel)
theorem thr_sel0 : ∀ w ∈ thrC.map (fun c => Cond.selects (cN c) Bundle.tFill0 Bundle.tFill0), w ∈ lw_all := lw_in _ [646, 415, 871, 1902, 1960, 2911, 3158, 3321] (by decide +kernel) (by decide +kernel)
theorem thr_c : ∀ c ∈ thrC, 0 < c ∧ c < 37 ∧ 52 ∈ cFl c ∧ 55 ∈ cFl c := by decide +kernel
section FILL
variable {α : Type} {ρ : α → EN} {γ : GP} {l : Launch} {k : CK} {G0 G : AH} {pc : Nat} {lv : List (Nat × Value)} {st : List Value}
/-- fillInStackTrace without traces: nothing is kept -/
def okFill {β : Type} (γ : GP) (G : AH) (a : Nat) (x : Option β) : Option β := if γ.2 < a ∧ hK G a ∈ thrC ∧ hR G 52 a = γ.1 1 ∧ hR G 55 a = 0 then x else none
theorem rv_isRef (n : Nat) : (rv n).isRef = true := by
  unfold rv
  split <;> rfl
theorem fill_room {e : Env} {V : State} {g : JFrame} {m : MethodId} {self : Addr} {cell : Cell} {p : Program} {l : Launch} {R : Room} {s : State} {m0 : MethodId} {args : Array Value} {below : List Frame} {meth : Method} {c : Code} {locs : List Loc} {cells slots : Nat} (X : Stand p l e R s m0 args below meth c V locs cells slots) (hg : g.locals.size = c.maxLocals) (vm1 : Vm) (h2 : 2 < R.frames)
    (hlo : 2 * g.monitorRoom + (g.stack.map fun v => v.category).sum + 42 ≤ R.locals) {bl : List Frame} {cf : Code} (hAt : At (fillInside (V.setVm vm1) g m self cell) m cf bl) :
    e.platform.stackFull ((((fillInside (V.setVm vm1) g m self cell).setTop (fillJ m self 16 [])).threads[((fillInside (V.setVm vm1) g m self cell).setTop (fillJ m self 16 [])).cur]?).getD { frames := [] }) ((fillInside (V.setVm vm1) g m self cell).setTop (fillJ m self 16 [])).frames (nativeFrameWords "java/lang/Throwable" "fillInStackTrace" 2) = false := by
  have htop := X.here.top
  have hfr' : V.frames.length + 2 < (e.platform.stackLimits V.me).1 := X.framesAbove h2
  have hwd' : (stackUse (.java g :: V.frames.tail)).2 + 42 ≤ (e.platform.stackLimits V.me).2 := X.stackAbove hg (K := 42) hlo
  obtain ⟨g₀, hg0⟩ := Option.isSome_iff_exists.mp htop
  obtain ⟨tl0, htl0⟩ := State.topJava?_eq_some.mp hg0
  have hlen0 : V.frames.length = (Frame.java g :: V.frames.tail).length := by rw [htl0]; rfl
  have hw14 : (stackUse [Frame.java (fillJ m self 16 [])]).2 = 14 := by
    rw [stackUse_java, stackUse_nil]
    simp [operandWords]
  obtain ⟨g₁, hg1⟩ := Option.isSome_iff_exists.mp hAt.top
  obtain ⟨tl1, htl1⟩ := State.topJava?_eq_some.mp hg1
  have htail : (fillInside (V.setVm vm1) g m self cell).frames.tail = .java g :: V.frames.tail := fillInside_tail (V.setVm vm1) g m self cell htop
  have etl : tl1 = .java g :: V.frames.tail := by rw [htl1] at htail; exact htail
  have htopE : ((V.setVm vm1).setCell self (cell.withEntry (V.setVm vm1).cur)).topJava?.isSome := htop
  have hlimF : e.platform.stackLimits (fillInside (V.setVm vm1) g m self cell).me = e.platform.stackLimits V.me := by
    rw [State.stackLimits_pushFrame, State.stackLimits_setTop _ htopE]; rfl
  exact roomAbove (pushed := [.java (fillJ m self 16 [])]) (base := .java g :: V.frames.tail) (free := 42) (lim := e.platform.stackLimits V.me) (by rw [State.frames_setTop _ htl1, etl]; rfl) (by rw [State.stackLimits_setTop _ hAt.top]; exact hlimF)
    (by rw [← hlen0]; simp only [List.length_cons, List.length_nil]; omega) hwd' (by rw [hw14]; decide)
theorem r_fill {a : Nat} {x : Option α} (hl : l.stackTraces = false) (hd : decode k.2.1 pc = .ok (.invokevirtual 27, 3)) (hk : k.1 = "java/lang/Throwable") (hdd : 4 ≤ k.2.2.2.2.2.2) (hw : (st.map fun v => v.category).sum ≤ 8) (kk : AW ρ γ l k G0 (pc + 3) lv (.ref a :: st) G x) : AW ρ γ l k G0 pc lv (.ref a :: st) G (okFill γ G a x) := by
  unfold okFill
  refine AW_chk (fun hx => AW_same (fun p e R s m args below meth c H locs ls cells slots Q C hP hV hls w => ?_) kk)
  obtain ⟨hxa, hxc, hxS, hxB⟩ := hx
  intro T hT X
  have hts := C.2.2.2.2.2.2.2.2.1
  have hG := C.2.2.2.2.2.2.2.2.2.1
  obtain ⟨h0, h37, hfS, hfB⟩ := thr_c _ hxc
  have htr : e.platform.stackTraces = false := (show e.platform.stackTraces = l.stackTraces by rw [X.admits.platform]).trans hl
  have howns : e.platform.frameOwnsMonitors = true := by rw [X.admits.platform]
  have hfin : e.platform.finalization = false := by rw [X.admits.platform]
  have hpl : e.platform.magicAccessors = ({} : Platform).magicAccessors := by rw [X.admits.platform]
  have hob := (hP.2.2 a (by omega)).2.1 (by omega)
  obtain ⟨cell, g1, g2, g3, g4, g5, g6⟩ := hob
  obtain ⟨gv, go, gc⟩ := g5 hxa
  have e0 : cv (.ref a) = .ref (a - 1) := rv_pos (by omega)
  obtain ⟨Tc, Z0, L, LZ, Y⟩ := ThrowableC.of_atoms (args := args) (s := s) howns hfin hpl (fun z hz => by
    rcases thr_at z hz with h | ⟨q, hq, rfl⟩
    · exact hts z h
    · exact (hG.2.2.2.2.2.2.2 q hq).word args)
  have hsel0 : selectMethod e.platform s.vm cell.cls Tc.fill0 = .method Tc.fill0 := by
    obtain ⟨c2, r2, m2, q1, q2, q3, q4, -⟩ := Cond.selects_spec (hts _ (thr_sel0 _ (List.mem_map.mpr ⟨_, hxc, rfl⟩)))
    cases Option.some.inj (q1.symm.trans g2)
    cases Option.some.inj (q2.symm.trans (State.methodFound?_of_named Y.fill0 (by decide)))
    cases Option.some.inj (q3.symm.trans Y.fill0)
    rw [Launch.admits_selectMethod X.admits]; exact q4
  have hselw := hts _ (thr_sel _ (List.mem_map.mpr ⟨_, hxc, rfl⟩))
  obtain ⟨c2, r2, m2, q1, q2, q3, q4, kP, hkP, hkPi⟩ := Cond.selects_spec hselw
  cases Option.some.inj (q1.symm.trans g2)
  cases Option.some.inj (q2.symm.trans (State.methodFound?_of_named Y.fill (by decide)))
  cases Option.some.inj (q3.symm.trans Y.fill)
  have hselF : selectMethod e.platform s.vm cell.cls Tc.fill = .method Tc.fill := by rw [Launch.admits_selectMethod X.admits]; exact q4
  obtain ⟨cf, kf, fi, f, aS, cellS, z1, z2, z3, z4, z5, z6, z7, z8⟩ := hG.2.1 (1, "java/lang/Throwable", "UNASSIGNED_STACK", "[Ljava/lang/StackTraceElement;") (List.mem_of_getElem? (i := 1) rfl)
  cases Option.some.inj (z1.symm.trans Y.unassigned)
  have haS : aS = Tc.aS := Option.some.inj (z4.symm.trans L.statics)
  subst haS
  have hcS : T.heap[Tc.aS]? = some cellS := by
    rw [hT, hV.2.1 Tc.aS (Array.getElem?_eq_some_iff.mp z5).1 z8]; exact z5
  have hneS : Tc.aS ≠ a - 1 := by
    intro he
    exact z8 (Nat.le_trans (Nat.le_sub_one_of_lt hxa) (Nat.le_of_eq he.symm))
  have hknS : cellS.vm ≠ .unknown := fun hu => by rw [hu] at z6; cases z6
  obtain ⟨cf9, k9, i9, fd9, y1, -, y3⟩ := g6 52 hfS
  cases Option.some.inj (y1.symm.trans Y.stack)
  have hvS : cell.slots[Tc.fStack.slot]? = some (rv (γ.1 1)) := by
    rw [y3, ← hxS]; rfl
  obtain ⟨ci198, i198, fB, hk198, hg198, ha198, hsB, -, hnB, htB, hffB⟩ := Cond.ownField (t := .object "java/lang/Object") Y.found L.cls (by decide +kernel) (hts _ (thr_back _ (List.mem_of_getElem? (i := 0) rfl))) (hts _ (thr_back _ (List.mem_of_getElem? (i := 1) rfl))) e.platform hpl
  obtain ⟨cf8, k8, i8, fd8, x1, -, x3⟩ := g6 55 hfB
  cases Option.some.inj (x1.symm.trans hffB)
  have hvB : cell.slots[fB.slot]? = some .null := by
    rw [x3]
    show some (rv (hR G 55 a)) = _
    rw [hxB]; rfl
  obtain ⟨cC, kC, hfC, hkC, hordC, -⟩ := Cond.instantiable_spec (hts _ (cIn _ h0 h37))
  cases Option.some.inj (hfC.symm.trans g2)
  have hlay : (Cond.lays (cN (hK G a)) "java/lang/Throwable" "stackTrace" "[Ljava/lang/StackTraceElement;").before args s = true := hts _ (cLay _ h0 h37 52 hfS)
  obtain ⟨tyS, -⟩ := Cond.laysAt hfC hkC Y.stack hlay
  have htS : Takes s cell Tc.fStack (rv (γ.1 1)) := by
    refine ⟨(Array.getElem?_eq_some_iff.mp hvS).1, ?_⟩
    have h9 := (Takes.of_laid (v := rv (γ.1 1)) hkC hordC tyS (by rw [Y.stackType]; exact fits_refV_array _ ⟨_, rv_isRef _⟩)).2
    rw [gv]
    exact h9
  have hT1 : T.heap[a - 1]? = some cell := by rw [hT]; exact g1
  obtain ⟨cn, ck, r1, hcn1, hck, hni, hf, hn1⟩ := Cond.sameMethod_found (hts _ (thr_back _ (List.mem_of_getElem? (i := 2) rfl)))
  obtain ⟨mk, methM, hnamed, hmethM, hstM, habM⟩ := Cond.instanceMethod_spec (hts _ (thr_in (.instanceMethod Bundle.tFill) (List.mem_of_getElem? (i := 2) rfl)))
  obtain ⟨methM', cM, hmethM', -, -, -, -, -, -, hsigM⟩ := Cond.codeSync_spec hnamed (hts _ (thr_in _ (List.mem_of_getElem? (i := 3) rfl)))
  cases hmethM.symm.trans hmethM'
  cases Option.some.inj (hnamed.symm.trans Y.fill)
  have hown : s.vm.findClass "java/lang/Throwable" = some m.cls := by rw [← hk]; exact C.2.2.2.2.2.1
  have hlink : (Cond.methodLink "java/lang/Throwable" 27 Bundle.tFill).before args s = true := hts _ (thr_in _ (List.mem_of_getElem? (i := 11) rfl))
  have hlen : ([] : List Value).length = methM.sig.parameters.length := by
    have h2 : parseMethodDescriptor Bundle.tFill.desc = some methM.sig := hsigM
    have h3 : (parseMethodDescriptor Bundle.tFill.desc).map (fun d => d.parameters.length) = some 0 := by decide +kernel
    rw [h2] at h3
    exact (Option.some.inj h3).symm
  obtain ⟨vm₁, X₁, hstep₁⟩ := X.invokevirtualUp C.1 hown hlink (hts _ (thr_back _ (List.mem_of_getElem? (i := 2) rfl))) ⟨by decide, by decide⟩ hnamed hmethM hstM (a := a - 1) (cell := cell) hT1
    (fun z h => by rw [gv] at h; cases h) hselF hmethM habM hkP hkPi (g := F0 m pc ls ((Value.ref a :: st).map cv)) rfl (argsL := []) (rest := st.map cv) hlen (by
      show (Value.ref a :: st).map cv = _
      rw [List.map_cons, e0]; rfl) (by rw [C.2.1]; exact hd)
  have hR4 : 4 ≤ R.frames := Nat.le_trans hdd C.2.2.2.2.2.2.2.2.2.2.1
  have hRl : 64 * 4 ≤ R.locals := Nat.le_trans (Nat.mul_le_mul_left 64 hdd) C.2.2.2.2.2.2.2.2.2.2.2
  have hgs : ({ F0 m pc ls ((Value.ref a :: st).map cv) with stack := st.map cv } : JFrame).locals.size = c.maxLocals := by
    show ls.size = c.maxLocals
    rw [hls.1, C.2.2.1]
  have hgw : 2 * ({ F0 m pc ls ((Value.ref a :: st).map cv) with stack := st.map cv } : JFrame).monitorRoom + (({ F0 m pc ls ((Value.ref a :: st).map cv) with stack := st.map cv } : JFrame).stack.map fun v => v.category).sum ≤ 8 := by
    have := mroom (rest := st) (m := m) (pc := pc) (ls := ls) (s9 := st.map cv) hw
    exact this
  have hTv1 : (T.setVm vm₁).heap[a - 1]? = some cell := hT1
  obtain ⟨vm', hW', stp⟩ := Steps.fillColdAnyV p (V := T.setVm vm₁) (g := { F0 m pc ls ((Value.ref a :: st).map cv) with stack := st.map cv }) (c := c) (self := a - 1) X₁.here C.1 Tc L X₁.warmed
    (Nn := fun u => u) heapOnly_id (fun _ _ => rfl) (fun _ => rfl) (fun u x y => setCell_twice _ _ _ _)
    (cell := cell) (cellS := cellS) (cN := cell.withEntry (T.setVm vm₁).cur) (u0 := ⟨rv (γ.1 1), rv_isRef _⟩) (ig := .invokevirtual 27) (len := 3) []
    hTv1 (fun z h => by rw [gv] at h; cases h) g3 (Or.inl go) hvS hsel0 hcS hneS hknS z7 (fun u hu => hu) (fun u hu => hu) rfl rfl rfl rfl htS (by rw [C.2.1]; exact hd)
    (fun hne vm1 hW1 hAt t' hs => L.nativeOff p htr hAt hW1 (fill_room X₁ hgs vm1 (by omega) (by omega) hAt) hs)
    (X₁.notFull hgs (by omega) (by omega))
    ⟨{ ci198 := ci198, i198 := i198, fBack := fB }, ⟨hk198, hg198, ha198, hsB⟩, hvB, fun _ _ => rfl⟩
  have hend : ((cell.withEntry (T.setVm vm₁).cur).setSlot Tc.fStack.slot (rv (γ.1 1))).left = cell := by
    rw [Cell.left_setSlot_withEntry _ _ _ go gc]
    exact Cell.setSlot_same hvS
  have X2 := X₁.noted hW'
  obtain ⟨t, a1, b1⟩ := w (T.setVm vm') hT X2
  refine ⟨t, hstep₁ t (fun acts => ?_), b1⟩
  rw [doInvoke_state]
  refine stp t ?_
  have hst9 : ((((T.setVm vm₁).setVm vm').setCell (a - 1) ((cell.withEntry (T.setVm vm₁).cur).setSlot Tc.fStack.slot (rv (γ.1 1))).left)) = T.setVm vm' := by
    rw [hend]
    have h9 : T.heap.setIfInBounds (a - 1) cell = T.heap := by
      obtain ⟨hlt, hv⟩ := Array.getElem?_eq_some_iff.mp hT1
      refine Array.ext (Array.size_setIfInBounds ..) fun j h1 h2 => ?_
      rw [Array.getElem_setIfInBounds]
      split
      · rename_i h; subst h; exact hv.symm
      · rfl
    show ({ T.setVm vm' with heap := T.heap.setIfInBounds (a - 1) cell } : State) = T.setVm vm'
    rw [h9]
    rfl
  rw [hst9]
  rw [List.map_cons, e0] at a1
  exact a1
end FILL
