section AWc
variable {α β : Type} {ρ : α → EN} {ρ2 : β → EN} {γ : GP} {l : Launch} {k : CK} {G0 G : AH} {pc pc' : Nat} {lv lv' : List (Nat × Value)} {st st' stk rest As : List Value} {x : Option β}
/-- a contract's start -/
def PreA (γ : GP) (vs : List Value) (G : AH) : Array Value → State → Prop := fun a U => a = (vs.map cv).toArray ∧ Rep γ U G U.heap ∧ Glob γ U U.heap ∧ U.heap.size + 1 = hS G
theorem preA_blind {vs : List Value} : FrameBlind (PreA γ vs G) := fun a U g mk h =>
  ⟨h.1, h.2.1.moved (U := U.calling g mk a) (Vm.Alike.refl U.vm), h.2.2.1.warm (U := U.calling g mk a) (State.WarmedH.refl U), h.2.2.2⟩
theorem preA_of {s : State} {H : Heap} {locs : List Loc} {vs : List Value} (hP : Rep γ s G H) (hV : va_S (Af γ) s.heap H locs) (hG : Glob γ s s.heap) (U : State) (hU : U.heap = H) (hW : s.WarmedH U.vm) : PreA γ vs G (vs.map cv).toArray U :=
  ⟨rfl, by rw [hU]; exact hP.moved hW.alike, by rw [hU]; exact (hG.kept hV.2.1).warm hW, by rw [hU]; exact hP.1⟩
/-- what a method's contract says: x shows its answer and the heap behind it -/
def TrM (ρ : β → EN) (γ : GP) (l : Launch) (y : MethodName) (ws : List Cond) (d : Nat) (vs : List Value) (G : AH) (x : Option β) : Prop :=
  ∀ r : β, x = some r → (hS G ≤ hS (ρ r).2 ∧ hM G ≤ hM (ρ r).2) ∧ vx_Met l y ws ({ frames := d, cells := hS (ρ r).2 - hS G, slots := hM (ρ r).2 - hM G, locals := 64 * d }) (PreA γ vs G) (QR γ (ρ r)) (XR γ (ρ r)) (hS (ρ r).2 - hS G) (hM (ρ r).2 - hM G) (Af γ)
theorem lvc_args : ∀ (i : Nat) (vs : List Value), lvc (lv_args i vs) = lv_args i (vs.map cv)
  | _, [] => rfl
  | i, v :: vs => by
    show (i, cv v) :: lvc (lv_args (if v.category = 2 then i + 2 else i + 1) vs) = (i, cv v) :: lv_args (if (cv v).category = 2 then i + 2 else i + 1) (vs.map cv)
    rw [lvc_args, cv_cat]
theorem sl_len : ∀ (vs : List Value), (lg_sl (vs.map cv)).length = (lg_sl vs).length
  | [] => rfl
  | v :: vs => by
    have h := sl_len vs
    simp only [lg_sl] at h ⊢
    rw [List.map_cons, List.flatMap_cons, List.flatMap_cons, List.length_append, List.length_append, h]
    congr 1
    rw [cv_cat]
    split <;> rfl
theorem TrM_of {own nm ds : String} {cc : ByteArray} {nL d : Nat} {ret : Option FieldType} {vs : List Value} (hy : plainFor ⟨own, nm, ds⟩ = true) (hlen : (lg_sl vs).length ≤ nL) (h : AW ρ2 γ l (own, cc, nL, ret, nm, [], d) G 0 (lv_args 0 vs) [] G x) : TrM ρ2 γ l ⟨own, nm, ds⟩ (ws_ ⟨own, nm, ds⟩ cc nL ret) d vs G x := by
  intro r hr
  obtain ⟨h1, h2⟩ := h r hr
  refine ⟨h1, vx_ofW (cc := cc) (maxL := nL) (ret := ret) hy rfl (fun p e s m args below meth c s₁ B hml ht hv => ?_)⟩
  obtain ⟨rfl, hP, hG, hsz⟩ := hv
  rw [lg_entry_eq]
  have hts := atoms_spec (ws := ws_ ⟨own, nm, ds⟩ cc nL ret) B.pre
  have h3 := h2 p e ({ frames := d, cells := hS (ρ2 r).2 - hS G, slots := hM (ρ2 r).2 - hM G, locals := 64 * d }) s m _ below meth c s.heap [] _ ⟨B.exec, B.bytes, hml, B.returns, B.notSynchronized, findClass_of_methodNamed B.named, (name_of_methodNamed B.named B.method).1, (by
    show c.exceptionTable.toList = []
    cases he : c.exceptionTable.toList with
    | nil => rfl
    | cons a b => exact (ht a (by rw [he]; exact List.mem_cons_self)).elim), fun w hw => hts w (List.mem_cons_of_mem _ hw), hG, Nat.le_refl d, Nat.le_refl (64 * d)⟩ (Nat.le_refl _) (Nat.le_refl _) hsz (Nat.le_refl _) hP va_S.rf (by rw [lvc_args]; exact lv_entry (vs.map cv) (n := nL) (by rw [sl_len]; exact hlen))
  rw [Nat.sub_self, Nat.sub_self] at h3
  exact h3
theorem TrM_ofH {own nm ds : String} {cc : ByteArray} {nL d : Nat} {ret : Option FieldType} {hh : List (Nat × Nat × Nat × Nat)} {vs : List Value} (hy : plainName own = true) (hlen : (lg_sl vs).length ≤ nL) (h : AW ρ2 γ l (own, cc, nL, ret, nm, hh, d) G 0 (lv_args 0 vs) [] G x) : TrM ρ2 γ l ⟨own, nm, ds⟩ (wsW_ ⟨own, nm, ds⟩ cc nL ret hh) d vs G x := by
  intro r hr
  obtain ⟨h1, h2⟩ := h r hr
  refine ⟨h1, vx_ofWH (cc := cc) (maxL := nL) (ret := ret) (hh := hh) hy rfl (fun p e s m args below meth c s₁ B hml hv => ?_)⟩
  obtain ⟨rfl, hP, hG, hsz⟩ := hv
  rw [lg_entry_eq]
  have hts := atoms_spec (ws := wsW_ ⟨own, nm, ds⟩ cc nL ret hh) B.pre
  have h3 := h2 p e ({ frames := d, cells := hS (ρ2 r).2 - hS G, slots := hM (ρ2 r).2 - hM G, locals := 64 * d }) s m _ below meth c s.heap [] _ ⟨B.exec, B.bytes, hml, B.returns, B.notSynchronized, findClass_of_methodNamed B.named, (name_of_methodNamed B.named B.method).1, vx_table (x := ⟨own, nm, ds⟩) B (hts _ List.mem_cons_self), fun w hw => hts w (List.mem_cons_of_mem _ hw), hG, Nat.le_refl d, Nat.le_refl (64 * d)⟩ (Nat.le_refl _) (Nat.le_refl _) hsz (Nat.le_refl _) hP va_S.rf (by rw [lvc_args]; exact lv_entry (vs.map cv) (n := nL) (by rw [sl_len]; exact hlen))
  rw [Nat.sub_self, Nat.sub_self] at h3
  exact h3
/-- a call from this frame: len, the length of the instruction -/
def RunOK (ρ2 : β → EN) (γ : GP) (l : Launch) (k : CK) (pc len : Nat) (stk rest : List Value) (G : AH) (x : Option β) : Prop :=
  ∀ r : β, x = some r → (hS G ≤ hS (ρ2 r).2 ∧ hM G ≤ hM (ρ2 r).2) ∧
    ∀ (p : Program) (e : Env) (R : Room) (s : State) (m : MethodId) (args : Array Value) (below : List Frame) (meth : Method) (c : Code) (H : Heap) (locs : List Loc) (ls : Array Slot) (cells slots : Nat), Cx γ k p R s m args meth c → Rep γ s G H → va_S (Af γ) s.heap H locs → ls.size = k.2.2.1 →
      cells + (hS (ρ2 r).2 - hS G) ≤ R.cells → slots + (hM (ρ2 r).2 - hM G) ≤ R.slots →
      ∀ T : State, T.heap = H → Stand p l e R s m args below meth c T locs cells slots →
        (∃ (v : Option Value) (st₀ t T' : State) (L : List Loc), st₀.heap = H ∧ Stand p l e R s m args below meth c T' (locs ++ L) (cells + (hS (ρ2 r).2 - hS G)) (slots + (hM (ρ2 r).2 - hM G)) ∧ (∀ q ∈ L, Af γ q.base) ∧ T'.heap = t.heap ∧ T'.vm = t.vm ∧ QR γ (ρ2 r) #[] st₀ (.returned v) t ∧
          Goes p e below T (F0 m pc ls (stk.map cv)) T' (F0 m (pc + len) ls (v.toList ++ rest.map cv))) ∨
        (∃ (q : Addr) (st₀ t T' : State) (L : List Loc) (E : String) (ce : Cell), st₀.heap = H ∧ Stand p l e R s m args below meth c T' (locs ++ L) (cells + (hS (ρ2 r).2 - hS G)) (slots + (hM (ρ2 r).2 - hM G)) ∧ (∀ z ∈ L, Af γ z.base) ∧ T'.heap = t.heap ∧ T'.vm = t.vm ∧ XR γ (ρ2 r) E q st₀ t ∧ t.heap[q]? = some ce ∧ ce.vm = .none ∧ s.vm.findClass E = some ce.cls ∧
          Steps p.tables e below (T.setTop (F0 m pc ls (stk.map cv))) ((T'.setTop (F0 m pc ls (rest.map cv))).pushFrame (.throwing q)))
theorem RunOK_chk {len : Nat} {P : Prop} [Decidable P] (h : P → RunOK ρ2 γ l k pc len stk rest G x) : RunOK ρ2 γ l k pc len stk rest G (if P then x else none) := by
  intro r hr
  by_cases hP : P
  · rw [if_pos hP] at hr
    exact h hP r hr
  · rw [if_neg hP] at hr
    cases hr
theorem RunOK_if {len : Nat} {P : Prop} [Decidable P] {y : Option β} (h1 : P → RunOK ρ2 γ l k pc len stk rest G x) (h2 : RunOK ρ2 γ l k pc len stk rest G y) : RunOK ρ2 γ l k pc len stk rest G (if P then x else y) := by
  intro r hr
  by_cases hP : P
  · rw [if_pos hP] at hr
    exact h1 hP r hr
  · rw [if_neg hP] at hr
    exact h2 r hr
theorem cats (l : List Value) : ((l.map cv).map fun v => v.category).sum = (l.map fun v => v.category).sum := by
  rw [List.map_map]
  congr 1
  exact List.map_congr_left (fun v _ => cv_cat v)
theorem mroom {m : MethodId} {ls : Array Slot} {s9 : List Value} (h : (rest.map fun v => v.category).sum ≤ 8) : 2 * (F0 m pc ls s9).monitorRoom + ((rest.map cv).map fun v => v.category).sum ≤ 8 := by
  rw [cats]
  show 2 * 0 + _ ≤ 8
  omega
/-- what names a method well -/
abbrev mOK (y : MethodName) (n : Nat) : Prop := y.cls ≠ "java/lang/invoke/MethodHandle" ∧ y.cls ≠ "java/lang/invoke/VarHandle" ∧ (parseMethodDescriptor y.desc).map (fun d => d.parameters.length) = some n
/-- the receiver, of a class that is said -/
abbrev isC (G : AH) (a : Nat) (c : Nat) : Prop := hK G a = c
theorem Rep.recv {s : State} {H : Heap} (h : Rep γ s G H) {a c : Nat} (hc : hK G a = c) (h0 : c ≠ 0 ∧ c < 100) : cv (.ref a) = .ref (a - 1) ∧ ∃ cell : Cell, H[a - 1]? = some cell ∧ cell.vm.isStatics = false ∧ s.vm.findClass (cN c) = some cell.cls := by
  obtain ⟨h1, h2⟩ := h.ob2 (a := a) (by rw [hc]; exact h0)
  rw [hc] at h2
  exact ⟨h1, h2⟩
theorem k_room {γ : GP} {p : Program} {R : Room} {s : State} {m : MethodId} {args : Array Value} {meth : Method} {c : Code} {d L : Nat} (C : Cx γ k p R s m args meth c) (hd : d + 1 ≤ k.2.2.2.2.2.2) (hL : L ≤ 45) : d + 1 ≤ R.frames ∧ 8 + (L + 11) + 64 * d ≤ R.locals := by
  have h1 := C.2.2.2.2.2.2.2.2.2.2.1
  have h2 := C.2.2.2.2.2.2.2.2.2.2.2
  omega
theorem run_V {y : MethodName} {b : ByteArray} {L idx a d n c9 : Nat} {ret : Option FieldType} (hT : TrM ρ2 γ l y (ws_ y b L ret) d (.ref a :: As) G x) (hd : decode k.2.1 pc = .ok (.invokevirtual idx, 3)) (h1 : Cond.methodLink k.1 idx y ∈ lw_all) (h2 : Cond.instanceMethod y ∈ lw_all) (h3 : Cond.selects y.cls y y ∈ lw_all) (h4 : Cond.initialized y.cls ∈ lw_all) (h5 : Cond.code y b L ret ∈ lw_all)
    (hn : mOK y n) (hAs : As.length = n) (hc : hK G a = c9) (hcn : cN c9 = y.cls ∧ c9 ≠ 0 ∧ c9 < 100) (hdd : d + 1 ≤ k.2.2.2.2.2.2) (hL : L ≤ 45) (hst : stk = As.reverse ++ .ref a :: rest) (hw : (rest.map fun v => v.category).sum ≤ 8) : RunOK ρ2 γ l k pc 3 stk rest G x := by
  intro r hr
  obtain ⟨m1, hM⟩ := hT r hr
  refine ⟨m1, fun p e R s m args below meth c H locs ls cells slots C hP hV hls hc1 hs1 => ?_⟩
  obtain ⟨e0, hrc⟩ := hP.recv hc hcn.2
  rw [hcn.1] at hrc
  have hts := C.2.2.2.2.2.2.2.2.1
  exact vx_runV (As := As.map cv) (rest := rest.map cv) (b := a - 1) (C := y.cls) (n := n) ⟨C.1, C.2.1, C.2.2.1, C.2.2.2.2.2.1, hts⟩ hM (cwV n hts (lw_V h1 h2 h3 h4 h5) rfl rfl rfl ⟨rfl, hn⟩ (k_room C hdd hL)) ⟨preA_blind, hrc, fun U hU hW => by
    have := preA_of (vs := .ref a :: As) hP hV C.2.2.2.2.2.2.2.2.2.1 U hU hW
    rw [List.map_cons, e0] at this
    exact this⟩ rfl (by rw [List.length_map]; exact hAs) hls (by rw [hst, List.map_append, List.map_reverse, List.map_cons, e0]) (mroom hw) hd ⟨hc1, hs1⟩
theorem run_VX {y : MethodName} {b : ByteArray} {hh : List (Nat × Nat × Nat × Nat)} {L idx a d n c9 : Nat} {ret : Option FieldType} (hT : TrM ρ2 γ l y (wsW_ y b L ret hh) d (.ref a :: As) G x) (hd : decode k.2.1 pc = .ok (.invokevirtual idx, 3)) (h1 : Cond.methodLink k.1 idx y ∈ lw_all) (h2 : Cond.instanceMethod y ∈ lw_all) (h3 : Cond.selects y.cls y y ∈ lw_all) (h4 : Cond.initialized y.cls ∈ lw_all) (h5 : Cond.codeWith y b L ret hh ∈ lw_all)
    (hn : mOK y n) (hAs : As.length = n) (hc : hK G a = c9) (hcn : cN c9 = y.cls ∧ c9 ≠ 0 ∧ c9 < 100) (hdd : d + 1 ≤ k.2.2.2.2.2.2) (hL : L ≤ 45) (hst : stk = As.reverse ++ .ref a :: rest) (hw : (rest.map fun v => v.category).sum ≤ 8) : RunOK ρ2 γ l k pc 3 stk rest G x := by
  intro r hr
  obtain ⟨m1, hM⟩ := hT r hr
  refine ⟨m1, fun p e R s m args below meth c H locs ls cells slots C hP hV hls hc1 hs1 => ?_⟩
  obtain ⟨e0, hrc⟩ := hP.recv hc hcn.2
  rw [hcn.1] at hrc
  have hts := C.2.2.2.2.2.2.2.2.1
  exact vx_runVX (As := As.map cv) (rest := rest.map cv) (b := a - 1) (C := y.cls) (n := n) ⟨C.1, C.2.1, C.2.2.1, C.2.2.2.2.2.1, hts⟩ hM (vx_cwVW n hts (lw_VW h1 h2 h3 h4 h5) rfl rfl rfl ⟨rfl, hn⟩ (k_room C hdd hL)) ⟨preA_blind, hrc, fun U hU hW => by
    have := preA_of (vs := .ref a :: As) hP hV C.2.2.2.2.2.2.2.2.2.1 U hU hW
    rw [List.map_cons, e0] at this
    exact this⟩ rfl (by rw [List.length_map]; exact hAs) hls (by rw [hst, List.map_append, List.map_reverse, List.map_cons, e0]) (mroom hw) hd ⟨hc1, hs1⟩
theorem run_S {y : MethodName} {b : ByteArray} {L idx d n : Nat} {ret : Option FieldType} (hT : TrM ρ2 γ l y (ws_ y b L ret) d As G x) (hd : decode k.2.1 pc = .ok (.invokestatic idx, 3)) (h1 : Cond.methodLink k.1 idx y ∈ lw_all) (h2 : Cond.static y ∈ lw_all) (h4 : Cond.initialized y.cls ∈ lw_all) (h5 : Cond.code y b L ret ∈ lw_all)
    (hn : mOK y n) (hAs : As.length = n) (hdd : d + 1 ≤ k.2.2.2.2.2.2) (hL : L ≤ 45) (hst : stk = As.reverse ++ rest) (hw : (rest.map fun v => v.category).sum ≤ 8) : RunOK ρ2 γ l k pc 3 stk rest G x := by
  intro r hr
  obtain ⟨m1, hM⟩ := hT r hr
  refine ⟨m1, fun p e R s m args below meth c H locs ls cells slots C hP hV hls hc1 hs1 => ?_⟩
  have hts := C.2.2.2.2.2.2.2.2.1
  exact vx_runS (As := As.map cv) (rest := rest.map cv) (n := n) ⟨C.1, C.2.1, C.2.2.1, C.2.2.2.2.2.1, hts⟩ hM (va_cwS n hts (lw_S h1 h2 h4 h5) rfl rfl rfl hn (k_room C hdd hL)) ⟨preA_blind, fun U hU hW => preA_of (vs := As) hP hV C.2.2.2.2.2.2.2.2.2.1 U hU hW⟩ rfl (by rw [List.length_map]; exact hAs) hls (by rw [hst, List.map_append, List.map_reverse]) (mroom hw) hd ⟨hc1, hs1⟩
theorem run_SX {y : MethodName} {b : ByteArray} {hh : List (Nat × Nat × Nat × Nat)} {L idx d n : Nat} {ret : Option FieldType} (hT : TrM ρ2 γ l y (wsW_ y b L ret hh) d As G x) (hd : decode k.2.1 pc = .ok (.invokestatic idx, 3)) (h1 : Cond.methodLink k.1 idx y ∈ lw_all) (h2 : Cond.static y ∈ lw_all) (h4 : Cond.initialized y.cls ∈ lw_all) (h5 : Cond.codeWith y b L ret hh ∈ lw_all)
    (hn : mOK y n) (hAs : As.length = n) (hdd : d + 1 ≤ k.2.2.2.2.2.2) (hL : L ≤ 45) (hst : stk = As.reverse ++ rest) (hw : (rest.map fun v => v.category).sum ≤ 8) : RunOK ρ2 γ l k pc 3 stk rest G x := by
  intro r hr
  obtain ⟨m1, hM⟩ := hT r hr
  refine ⟨m1, fun p e R s m args below meth c H locs ls cells slots C hP hV hls hc1 hs1 => ?_⟩
  have hts := C.2.2.2.2.2.2.2.2.1
  exact vx_runSX (As := As.map cv) (rest := rest.map cv) (n := n) ⟨C.1, C.2.1, C.2.2.1, C.2.2.2.2.2.1, hts⟩ hM (vx_cwSW n hts (lw_SW h1 h2 h4 h5) rfl rfl rfl hn (k_room C hdd hL)) ⟨preA_blind, fun U hU hW => preA_of (vs := As) hP hV C.2.2.2.2.2.2.2.2.2.1 U hU hW⟩ rfl (by rw [List.length_map]; exact hAs) hls (by rw [hst, List.map_append, List.map_reverse]) (mroom hw) hd ⟨hc1, hs1⟩
/-- a constructor (or another's, named by super) on a -/
theorem run_I {y : MethodName} {b : ByteArray} {L idx a d n : Nat} (hT : TrM ρ2 γ l y (ws_ y b L none) d (.ref a :: As) G x) (hd : decode k.2.1 pc = .ok (.invokespecial idx, 3)) (h1 : Cond.methodLink k.1 idx y ∈ lw_all) (h2 : Cond.instanceMethod y ∈ lw_all) (h4 : Cond.initialized y.cls ∈ lw_all) (h5 : Cond.code y b L none ∈ lw_all) (hnm : y.name = "<init>")
    (hn : mOK y n) (hAs : As.length = n) (ha : a ≠ 0) (hdd : d + 1 ≤ k.2.2.2.2.2.2) (hL : L ≤ 45) (hst : stk = As.reverse ++ .ref a :: rest) (hw : (rest.map fun v => v.category).sum ≤ 8) : RunOK ρ2 γ l k pc 3 stk rest G x := by
  intro r hr
  obtain ⟨m1, hM⟩ := hT r hr
  refine ⟨m1, fun p e R s m args below meth c H locs ls cells slots C hP hV hls hc1 hs1 => ?_⟩
  have e0 : cv (.ref a) = .ref (a - 1) := rv_pos ha
  have hts := C.2.2.2.2.2.2.2.2.1
  exact vx_runI (As := As.map cv) (rest := rest.map cv) (b := a - 1) (n := n) ⟨C.1, C.2.1, C.2.2.1, C.2.2.2.2.2.1, hts⟩ hM (cwI n hts (lw_meth h5) rfl rfl rfl (hts _ h4) (hts _ h1) (hts _ h2) hnm hn (k_room C hdd hL)) ⟨preA_blind, fun U hU hW => by
    have := preA_of (vs := .ref a :: As) hP hV C.2.2.2.2.2.2.2.2.2.1 U hU hW
    rw [List.map_cons, e0] at this
    exact this⟩ rfl (by rw [List.length_map]; exact hAs) hls (by rw [hst, List.map_append, List.map_reverse, List.map_cons, e0]) (mroom hw) hd ⟨hc1, hs1⟩
theorem lw_U {own : String} {idx : Nat} {C owner : String} {x9 y : MethodName} {b : ByteArray} {L : Nat} {r : Option FieldType} (h1 : Cond.methodLink own idx x9 ∈ lw_all) (h2 : Cond.sameMethod x9.cls owner x9.name x9.desc ∈ lw_all) (h3 : Cond.selects C x9 y ∈ lw_all) (h4 : Cond.instanceMethod y ∈ lw_all) (h5 : Cond.initialized y.cls ∈ lw_all) (h6 : Cond.code y b L r ∈ lw_all) : GoodIn lw_all (va_wsU own idx C owner x9 y (ws_ y b L r)) := by
  refine lw_app ?_ (lw_meth h6)
  intro w hw
  simp only [List.mem_cons, List.not_mem_nil, or_false] at hw
  rcases hw with e | e | e | e | e
  · rw [e]; exact h1
  · rw [e]; exact h2
  · rw [e]; exact h3
  · rw [e]; exact h4
  · rw [e]; exact h5
theorem lw_O {own : String} {idx : Nat} {C owner : String} {x9 y : MethodName} {b : ByteArray} {L : Nat} {r : Option FieldType} (h1 : Cond.methodLink own idx x9 ∈ lw_all) (h2 : Cond.sameMethod x9.cls owner x9.name x9.desc ∈ lw_all) (h7 : Cond.instanceMethod ⟨owner, x9.name, x9.desc⟩ ∈ lw_all) (h3 : Cond.selects C x9 y ∈ lw_all) (h4 : Cond.instanceMethod y ∈ lw_all) (h5 : Cond.initialized y.cls ∈ lw_all) (h6 : Cond.code y b L r ∈ lw_all) : GoodIn lw_all (va_wsO own idx C owner x9 y (ws_ y b L r)) := by
  refine lw_app ?_ (lw_meth h6)
  intro w hw
  simp only [List.mem_cons, List.not_mem_nil, or_false] at hw
  rcases hw with e | e | e | e | e | e
  · rw [e]; exact h1
  · rw [e]; exact h2
  · rw [e]; exact h7
  · rw [e]; exact h3
  · rw [e]; exact h4
  · rw [e]; exact h5
theorem lw_F {own : String} {idx : Nat} {C : String} {x9 y : MethodName} {b : ByteArray} {L : Nat} {r : Option FieldType} (h1 : Cond.methodLink own idx x9 ∈ lw_all) (h3 : Cond.selects C x9 y ∈ lw_all) (h4 : Cond.instanceMethod y ∈ lw_all) (h5 : Cond.initialized y.cls ∈ lw_all) (h6 : Cond.code y b L r ∈ lw_all) : GoodIn lw_all (va_wsF own idx C x9 y (ws_ y b L r)) := by
  refine lw_app ?_ (lw_meth h6)
  intro w hw
  simp only [List.mem_cons, List.not_mem_nil, or_false] at hw
  rcases hw with e | e | e | e
  · rw [e]; exact h1
  · rw [e]; exact h3
  · rw [e]; exact h4
  · rw [e]; exact h5
theorem lw_SU {own : String} {idx : Nat} {y : MethodName} {b : ByteArray} {L : Nat} {r : Option FieldType} (h1 : Cond.methodLink own idx y ∈ lw_all) (h2 : Cond.sameMethod y.cls y.cls y.name y.desc ∈ lw_all) (h3 : Cond.superclass own y.cls ∈ lw_all) (h4 : Cond.instanceMethod y ∈ lw_all) (h5 : Cond.initialized y.cls ∈ lw_all) (h6 : Cond.code y b L r ∈ lw_all) : GoodIn lw_all (va_wsSU own idx y (ws_ y b L r)) := by
  refine lw_app ?_ (lw_meth h6)
  intro w hw
  simp only [List.mem_cons, List.not_mem_nil, or_false] at hw
  rcases hw with e | e | e | e | e
  · rw [e]; exact h1
  · rw [e]; exact h2
  · rw [e]; exact h3
  · rw [e]; exact h4
  · rw [e]; exact h5
theorem run_U_ {x9 y : MethodName} {b : ByteArray} {L idx a d n c9 : Nat} {ret : Option FieldType} {owner : String} (hT : TrM ρ2 γ l y (ws_ y b L ret) d (.ref a :: As) G x) (hd : decode k.2.1 pc = .ok (.invokevirtual idx, 3)) (hAs : As.length = n) (hc : hK G a = c9) (hcn : c9 ≠ 0 ∧ c9 < 100) (hdd : d + 1 ≤ k.2.2.2.2.2.2) (hL : L ≤ 45)
    (hcw : ∀ (p : Program) (R : Room) (s : State) (m : MethodId) (args : Array Value) (meth : Method) (c : Code) (mc ms : Nat), Cx γ k p R s m args meth c → va_CU R s args k.1 (cN c9) owner idx x9 y b L ret (ws_ y b L ret) ({ frames := d, cells := mc, slots := ms, locals := 64 * d }) mc ms n)
    (hst : stk = As.reverse ++ .ref a :: rest) (hw : (rest.map fun v => v.category).sum ≤ 8) : RunOK ρ2 γ l k pc 3 stk rest G x := by
  intro r hr
  obtain ⟨m1, hM⟩ := hT r hr
  refine ⟨m1, fun p e R s m args below meth c H locs ls cells slots C hP hV hls hc1 hs1 => ?_⟩
  obtain ⟨e0, hrc⟩ := hP.recv hc hcn
  have hts := C.2.2.2.2.2.2.2.2.1
  exact vx_runU (As := As.map cv) (rest := rest.map cv) (b := a - 1) (C := cN c9) (n := n) ⟨C.1, C.2.1, C.2.2.1, C.2.2.2.2.2.1, hts⟩ hM (hcw p R s m args meth c _ _ C) ⟨preA_blind, hrc, fun U hU hW => by
    have := preA_of (vs := .ref a :: As) hP hV C.2.2.2.2.2.2.2.2.2.1 U hU hW
    rw [List.map_cons, e0] at this
    exact this⟩ rfl (by rw [List.length_map]; exact hAs) hls (by rw [hst, List.map_append, List.map_reverse, List.map_cons, e0]) (mroom hw) hd ⟨hc1, hs1⟩
/-- x9 is named (its owner's own method), y runs: inherited -/
theorem run_U {x9 y : MethodName} {b : ByteArray} {L idx a d n c9 : Nat} {ret : Option FieldType} {owner : String} (hT : TrM ρ2 γ l y (ws_ y b L ret) d (.ref a :: As) G x) (hd : decode k.2.1 pc = .ok (.invokevirtual idx, 3)) (h1 : Cond.methodLink k.1 idx x9 ∈ lw_all) (h2 : Cond.sameMethod x9.cls owner x9.name x9.desc ∈ lw_all) (h3 : Cond.selects (cN c9) x9 y ∈ lw_all) (h4 : Cond.instanceMethod y ∈ lw_all) (h5 : Cond.initialized y.cls ∈ lw_all) (h6 : Cond.code y b L ret ∈ lw_all)
    (hyx : y = ⟨owner, x9.name, x9.desc⟩) (hn : owner ≠ "java/lang/invoke/MethodHandle" ∧ owner ≠ "java/lang/invoke/VarHandle" ∧ (parseMethodDescriptor x9.desc).map (fun d => d.parameters.length) = some n) (hAs : As.length = n) (hc : hK G a = c9) (hcn : c9 ≠ 0 ∧ c9 < 100) (hdd : d + 1 ≤ k.2.2.2.2.2.2) (hL : L ≤ 45) (hst : stk = As.reverse ++ .ref a :: rest) (hw : (rest.map fun v => v.category).sum ≤ 8) : RunOK ρ2 γ l k pc 3 stk rest G x :=
  run_U_ hT hd hAs hc hcn hdd hL (fun _ _ _ _ _ _ _ _ _ C => va_cwU n C.2.2.2.2.2.2.2.2.1 (lw_U h1 h2 h3 h4 h5 h6) rfl rfl rfl hyx hn (k_room C hdd hL)) hst hw
/-- x9's owner has code of its own, y runs: overridden -/
theorem run_O {x9 y : MethodName} {b b0 : ByteArray} {L m0 idx a d n c9 : Nat} {ret r0 : Option FieldType} {owner : String} (hT : TrM ρ2 γ l y (ws_ y b L ret) d (.ref a :: As) G x) (hd : decode k.2.1 pc = .ok (.invokevirtual idx, 3)) (h1 : Cond.methodLink k.1 idx x9 ∈ lw_all) (h2 : Cond.sameMethod x9.cls owner x9.name x9.desc ∈ lw_all) (h7 : Cond.instanceMethod ⟨owner, x9.name, x9.desc⟩ ∈ lw_all) (h8 : Cond.code ⟨owner, x9.name, x9.desc⟩ b0 m0 r0 ∈ lw_all) (h3 : Cond.selects (cN c9) x9 y ∈ lw_all) (h4 : Cond.instanceMethod y ∈ lw_all) (h5 : Cond.initialized y.cls ∈ lw_all) (h6 : Cond.code y b L ret ∈ lw_all)
    (hn : owner ≠ "java/lang/invoke/MethodHandle" ∧ owner ≠ "java/lang/invoke/VarHandle" ∧ (parseMethodDescriptor x9.desc).map (fun d => d.parameters.length) = some n) (hAs : As.length = n) (hc : hK G a = c9) (hcn : c9 ≠ 0 ∧ c9 < 100) (hdd : d + 1 ≤ k.2.2.2.2.2.2) (hL : L ≤ 45) (hst : stk = As.reverse ++ .ref a :: rest) (hw : (rest.map fun v => v.category).sum ≤ 8) : RunOK ρ2 γ l k pc 3 stk rest G x :=
  run_U_ hT hd hAs hc hcn hdd hL (fun _ _ _ _ _ _ _ _ _ C => va_cwO n C.2.2.2.2.2.2.2.2.1 (lw_O h1 h2 h7 h3 h4 h5 h6) rfl rfl rfl h8 hn (k_room C hdd hL)) hst hw
/-- x9 is abstract -/
theorem run_A {x9 y : MethodName} {b : ByteArray} {L idx a d n c9 : Nat} {ret : Option FieldType} {owner : String} (hT : TrM ρ2 γ l y (ws_ y b L ret) d (.ref a :: As) G x) (hd : decode k.2.1 pc = .ok (.invokevirtual idx, 3)) (h1 : Cond.methodLink k.1 idx x9 ∈ lw_all) (h2 : Cond.sameMethod x9.cls owner x9.name x9.desc ∈ lw_all) (h3 : Cond.selects (cN c9) x9 y ∈ lw_all) (h4 : Cond.instanceMethod y ∈ lw_all) (h5 : Cond.initialized y.cls ∈ lw_all) (h6 : Cond.code y b L ret ∈ lw_all) (h7 : Cond.declares ⟨owner, x9.name, x9.desc⟩ ∈ lw_mv)
    (hn : owner ≠ "java/lang/invoke/MethodHandle" ∧ owner ≠ "java/lang/invoke/VarHandle" ∧ (parseMethodDescriptor x9.desc).map (fun d => d.parameters.length) = some n) (hAs : As.length = n) (hc : hK G a = c9) (hcn : c9 ≠ 0 ∧ c9 < 100) (hdd : d + 1 ≤ k.2.2.2.2.2.2) (hL : L ≤ 45) (hst : stk = As.reverse ++ .ref a :: rest) (hw : (rest.map fun v => v.category).sum ≤ 8) : RunOK ρ2 γ l k pc 3 stk rest G x :=
  run_U_ hT hd hAs hc hcn hdd hL (fun _ _ _ _ _ _ _ _ _ C => va_cwA n C.2.2.2.2.2.2.2.2.1 (lw_U h1 h2 h3 h4 h5 h6) rfl rfl rfl (C.2.2.2.2.2.2.2.2.2.1.1 _ h7) hn (k_room C hdd hL)) hst hw
theorem ClassAt_of {s : State} {c n : Nat} {args : Array Value} (h : (Cond.instantiable (cN c) n).before args s = true) : ∃ cC, ClassAt s (cN c) cC := by
  obtain ⟨cC, kC, hfc, hk, hkind, -⟩ := Cond.instantiable_spec h
  exact ⟨cC, hfc, kC, hk, hkind⟩
/-- super.m(..), on a receiver of a class that is made -/
theorem run_SU {y : MethodName} {b : ByteArray} {L idx a d n c9 : Nat} {ret : Option FieldType} (hT : TrM ρ2 γ l y (ws_ y b L ret) d (.ref a :: As) G x) (hd : decode k.2.1 pc = .ok (.invokespecial idx, 3)) (h1 : Cond.methodLink k.1 idx y ∈ lw_all) (h2 : Cond.sameMethod y.cls y.cls y.name y.desc ∈ lw_all) (h3 : Cond.superclass k.1 y.cls ∈ lw_all) (h4 : Cond.instanceMethod y ∈ lw_all) (h5 : Cond.initialized y.cls ∈ lw_all) (h6 : Cond.code y b L ret ∈ lw_all)
    (hn : y.name ≠ "<init>" ∧ (parseMethodDescriptor y.desc).map (fun d => d.parameters.length) = some n) (hAs : As.length = n) (hc : hK G a = c9) (hcn : c9 ≠ 0 ∧ c9 < 37) (hdd : d + 1 ≤ k.2.2.2.2.2.2) (hL : L ≤ 45) (hst : stk = As.reverse ++ .ref a :: rest) (hw : (rest.map fun v => v.category).sum ≤ 8) : RunOK ρ2 γ l k pc 3 stk rest G x := by
  intro r hr
  obtain ⟨m1, hM⟩ := hT r hr
  refine ⟨m1, fun p e R s m args below meth c H locs ls cells slots C hP hV hls hc1 hs1 => ?_⟩
  obtain ⟨e0, hrc⟩ := hP.recv hc ⟨hcn.1, by omega⟩
  have hts := C.2.2.2.2.2.2.2.2.1
  obtain ⟨cC, hat⟩ := ClassAt_of (hts _ (cIn c9 (Nat.pos_of_ne_zero hcn.1) hcn.2))
  exact vx_runSU (As := As.map cv) (rest := rest.map cv) (b := a - 1) (C := cN c9) (n := n) hat ⟨C.1, C.2.1, C.2.2.1, C.2.2.2.2.2.1, hts⟩ hM (va_cwSU n hts (lw_SU h1 h2 h3 h4 h5 h6) rfl rfl rfl hn (k_room C hdd hL)) ⟨preA_blind, hrc, fun U hU hW => by
    have := preA_of (vs := .ref a :: As) hP hV C.2.2.2.2.2.2.2.2.2.1 U hU hW
    rw [List.map_cons, e0] at this
    exact this⟩ rfl (by rw [List.length_map]; exact hAs) hls (by rw [hst, List.map_append, List.map_reverse, List.map_cons, e0]) (mroom hw) hd ⟨hc1, hs1⟩
/-- through an interface -/
theorem run_F {x9 y : MethodName} {b : ByteArray} {L idx count a d n c9 : Nat} {ret : Option FieldType} (hT : TrM ρ2 γ l y (ws_ y b L ret) d (.ref a :: As) G x) (hd : decode k.2.1 pc = .ok (.invokeinterface idx count, 5)) (h1 : Cond.methodLink k.1 idx x9 ∈ lw_all) (h3 : Cond.selects (cN c9) x9 y ∈ lw_all) (h4 : Cond.instanceMethod y ∈ lw_all) (h5 : Cond.initialized y.cls ∈ lw_all) (h6 : Cond.code y b L ret ∈ lw_all) (hF : (cN c9, x9, y) ∈ sFW)
    (hn : mOK x9 n) (hAs : As.length = n) (hc : hK G a = c9) (hcn : c9 ≠ 0 ∧ c9 < 37) (hdd : d + 1 ≤ k.2.2.2.2.2.2) (hL : L ≤ 45) (hst : stk = As.reverse ++ .ref a :: rest) (hw : (rest.map fun v => v.category).sum ≤ 8) : RunOK ρ2 γ l k pc 5 stk rest G x := by
  intro r hr
  obtain ⟨m1, hM⟩ := hT r hr
  refine ⟨m1, fun p e R s m args below meth c H locs ls cells slots C hP hV hls hc1 hs1 => ?_⟩
  obtain ⟨e0, hrc⟩ := hP.recv hc ⟨hcn.1, by omega⟩
  have hts := C.2.2.2.2.2.2.2.2.1
  obtain ⟨cC, hat⟩ := ClassAt_of (hts _ (cIn c9 (Nat.pos_of_ne_zero hcn.1) hcn.2))
  exact vx_runF (As := As.map cv) (rest := rest.map cv) (b := a - 1) (C := cN c9) (n := n) hat ⟨C.1, C.2.1, C.2.2.1, C.2.2.2.2.2.1, hts⟩ hM (va_cwF n hts (lw_F h1 h3 h4 h5 h6) rfl rfl rfl (C.2.2.2.2.2.2.2.2.2.1.2.2.2.2.2.2.1 _ hF).2 hn (k_room C hdd hL)) ⟨preA_blind, hrc, fun U hU hW => by
    have := preA_of (vs := .ref a :: As) hP hV C.2.2.2.2.2.2.2.2.2.1 U hU hW
    rw [List.map_cons, e0] at this
    exact this⟩ rfl (by rw [List.length_map]; exact hAs) hls (by rw [hst, List.map_append, List.map_reverse, List.map_cons, e0]) (mroom hw) hd ⟨hc1, hs1⟩
/-- private members of a nest mate -/
theorem run_VN {y : MethodName} {b : ByteArray} {host : String} {L idx a d n c9 : Nat} {ret : Option FieldType} (hT : TrM ρ2 γ l y (ws_ y b L ret) d (.ref a :: As) G x) (hd : decode k.2.1 pc = .ok (.invokevirtual idx, 3)) (h1 : Cond.methodLinkNest k.1 idx y host ∈ lw_mv) (h2 : Cond.instanceMethod y ∈ lw_all) (h3 : Cond.selects y.cls y y ∈ lw_all) (h4 : Cond.initialized y.cls ∈ lw_all) (h5 : Cond.code y b L ret ∈ lw_all)
    (hn : mOK y n) (hAs : As.length = n) (hc : hK G a = c9) (hcn : cN c9 = y.cls ∧ c9 ≠ 0 ∧ c9 < 100) (hdd : d + 1 ≤ k.2.2.2.2.2.2) (hL : L ≤ 45) (hst : stk = As.reverse ++ .ref a :: rest) (hw : (rest.map fun v => v.category).sum ≤ 8) : RunOK ρ2 γ l k pc 3 stk rest G x := by
  intro r hr
  obtain ⟨m1, hM⟩ := hT r hr
  refine ⟨m1, fun p e R s m args below meth c H locs ls cells slots C hP hV hls hc1 hs1 => ?_⟩
  obtain ⟨e0, hrc⟩ := hP.recv hc hcn.2
  rw [hcn.1] at hrc
  have hts := C.2.2.2.2.2.2.2.2.1
  exact vx_runVN (As := As.map cv) (rest := rest.map cv) (b := a - 1) (C := y.cls) (n := n) ⟨C.1, C.2.1, C.2.2.1, C.2.2.2.2.2.1, hts⟩ hM ⟨va_cnB n hts (lw_meth h5) rfl rfl rfl (C.2.2.2.2.2.2.2.2.2.1.1 _ h1) (hts _ h4) hn (k_room C hdd hL), hts _ h2, hts _ h3⟩ ⟨preA_blind, hrc, fun U hU hW => by
    have := preA_of (vs := .ref a :: As) hP hV C.2.2.2.2.2.2.2.2.2.1 U hU hW
    rw [List.map_cons, e0] at this
    exact this⟩ rfl (by rw [List.length_map]; exact hAs) hls (by rw [hst, List.map_append, List.map_reverse, List.map_cons, e0]) (mroom hw) hd ⟨hc1, hs1⟩
theorem run_SN {y : MethodName} {b : ByteArray} {host : String} {L idx d n : Nat} {ret : Option FieldType} (hT : TrM ρ2 γ l y (ws_ y b L ret) d As G x) (hd : decode k.2.1 pc = .ok (.invokestatic idx, 3)) (h1 : Cond.methodLinkNest k.1 idx y host ∈ lw_mv) (h2 : Cond.static y ∈ lw_all) (h4 : Cond.initialized y.cls ∈ lw_all) (h5 : Cond.code y b L ret ∈ lw_all)
    (hn : mOK y n) (hAs : As.length = n) (hdd : d + 1 ≤ k.2.2.2.2.2.2) (hL : L ≤ 45) (hst : stk = As.reverse ++ rest) (hw : (rest.map fun v => v.category).sum ≤ 8) : RunOK ρ2 γ l k pc 3 stk rest G x := by
  intro r hr
  obtain ⟨m1, hM⟩ := hT r hr
  refine ⟨m1, fun p e R s m args below meth c H locs ls cells slots C hP hV hls hc1 hs1 => ?_⟩
  have hts := C.2.2.2.2.2.2.2.2.1
  exact vx_runSN (As := As.map cv) (rest := rest.map cv) (n := n) ⟨C.1, C.2.1, C.2.2.1, C.2.2.2.2.2.1, hts⟩ hM ⟨va_cnB n hts (lw_meth h5) rfl rfl rfl (C.2.2.2.2.2.2.2.2.2.1.1 _ h1) (hts _ h4) hn (k_room C hdd hL), hts _ h2, trivial⟩ ⟨preA_blind, fun U hU hW => preA_of (vs := As) hP hV C.2.2.2.2.2.2.2.2.2.1 U hU hW⟩ rfl (by rw [List.length_map]; exact hAs) hls (by rw [hst, List.map_append, List.map_reverse]) (mroom hw) hd ⟨hc1, hs1⟩
theorem run_IN {y : MethodName} {b : ByteArray} {host : String} {L idx a d n : Nat} (hT : TrM ρ2 γ l y (ws_ y b L none) d (.ref a :: As) G x) (hd : decode k.2.1 pc = .ok (.invokespecial idx, 3)) (h1 : Cond.methodLinkNest k.1 idx y host ∈ lw_mv) (h2 : Cond.instanceMethod y ∈ lw_all) (h4 : Cond.initialized y.cls ∈ lw_all) (h5 : Cond.code y b L none ∈ lw_all) (hnm : y.name = "<init>")
    (hn : mOK y n) (hAs : As.length = n) (ha : a ≠ 0) (hdd : d + 1 ≤ k.2.2.2.2.2.2) (hL : L ≤ 45) (hst : stk = As.reverse ++ .ref a :: rest) (hw : (rest.map fun v => v.category).sum ≤ 8) : RunOK ρ2 γ l k pc 3 stk rest G x := by
  intro r hr
  obtain ⟨m1, hM⟩ := hT r hr
  refine ⟨m1, fun p e R s m args below meth c H locs ls cells slots C hP hV hls hc1 hs1 => ?_⟩
  have e0 : cv (.ref a) = .ref (a - 1) := rv_pos ha
  have hts := C.2.2.2.2.2.2.2.2.1
  exact vx_runIN (As := As.map cv) (rest := rest.map cv) (b := a - 1) (n := n) ⟨C.1, C.2.1, C.2.2.1, C.2.2.2.2.2.1, hts⟩ hM ⟨va_cnB n hts (lw_meth h5) rfl rfl rfl (C.2.2.2.2.2.2.2.2.2.1.1 _ h1) (hts _ h4) hn (k_room C hdd hL), hnm, hts _ h2⟩ ⟨preA_blind, fun U hU hW => by
    have := preA_of (vs := .ref a :: As) hP hV C.2.2.2.2.2.2.2.2.2.1 U hU hW
    rw [List.map_cons, e0] at this
    exact this⟩ rfl (by rw [List.length_map]; exact hAs) hls (by rw [hst, List.map_append, List.map_reverse, List.map_cons, e0]) (mroom hw) hd ⟨hc1, hs1⟩
theorem va_Sjoin {A : Nat → Prop} {H0 H H1 : Heap} {locs L : List Loc} {st₀ t : State} (hV : va_S A H0 H locs) (h0 : st₀.heap = H) (e1 : H1 = t.heap) (hL : ∀ q ∈ L, A q.base) (hF : va_F A st₀ t) : va_S A H0 H1 (locs ++ L) := by
  obtain ⟨hz, hk⟩ := hF
  rw [h0] at hz hk
  subst e1
  exact ⟨Nat.le_trans hV.1 hz, fun q h1 h2 => (hk q (Nat.lt_of_lt_of_le h1 hV.1) h2).trans (hV.2.1 q h1 h2), fun q hq => (List.mem_append.mp hq).elim (hV.2.2 q) (hL q)⟩
/-- behind a call: an answer v over G1, or a thrown q over G1 -/
theorem AW_call {len : Nat} {K : β → Option α} (hrun : RunOK ρ2 γ l k pc len stk rest G x)
    (kk : ∀ (r : β) (v : Option Value), (ρ2 r).1 = .inl v → AW ρ γ l k G0 (pc + len) lv (v.toList ++ rest) (ρ2 r).2 (K r))
    (kx : ∀ (r : β) (q : Nat), (ρ2 r).1 = .inr q → ∀ r2 : α, K r = some r2 → (hS (ρ2 r).2 ≤ hS (ρ r2).2 ∧ hM (ρ2 r).2 ≤ hM (ρ r2).2) ∧
      ∀ (p : Program) (e : Env) (R : Room) (s : State) (m : MethodId) (args : Array Value) (below : List Frame) (meth : Method) (c : Code) (H : Heap) (locs : List Loc) (ls : Array Slot),
        Cx γ k p R s m args meth c → hS (ρ r2).2 - hS G0 ≤ R.cells → hM (ρ r2).2 - hM G0 ≤ R.slots → s.heap.size + 1 = hS G0 → hM G0 ≤ hM (ρ2 r).2 → Rep γ s (ρ2 r).2 H → va_S (Af γ) s.heap H locs → lv_has ls k.2.2.1 (lvc lv) →
        0 < q → hK (ρ2 r).2 q ≠ 0 → hK (ρ2 r).2 q < 100 → (∃ ce : Cell, H[q - 1]? = some ce ∧ ce.vm = .none ∧ s.vm.findClass (cN (hK (ρ2 r).2 q)) = some ce.cls) →
        vx_W p l e R s m args below meth c H locs (hS (ρ2 r).2 - hS G0) (hM (ρ2 r).2 - hM G0) (vx_MQ below (QR γ (ρ r2)) (XR γ (ρ r2)) args s (hS (ρ r2).2 - hS G0) (hM (ρ r2).2 - hM G0) (Af γ)) (F0 m pc ls (rest.map cv)) (q - 1)) :
    AW ρ γ l k G0 pc lv stk G (x.bind K) := by
  intro r2 hr2
  obtain ⟨r, hx, hKr⟩ := Option.bind_eq_some_iff.mp hr2
  obtain ⟨⟨m1, m2⟩, run⟩ := hrun r hx
  cases hend : (ρ2 r).1 with
  | inl v =>
    obtain ⟨⟨n1, n2⟩, w⟩ := kk r v hend r2 hKr
    refine ⟨⟨Nat.le_trans m1 n1, Nat.le_trans m2 n2⟩, fun p e R s m args below meth c H locs ls C h1 h2 h3 h4 hP hV hl => ?_⟩
    have g1 := hP.1
    have g2 := hV.1
    intro T hT X
    rcases run p e R s m args below meth c H locs ls _ _ C hP hV hl.1 (by omega) (by omega) T hT X with ⟨v9, st₀, t, T', L, h0, X', hL, e1, e2, ⟨v8, q1, q2, q3, q4⟩, go⟩ | ⟨q, st₀, t, T', L, E, ce, h0, X', hL, e1, e2, ⟨q1, -⟩, -⟩
    · rw [hend] at q1
      cases q1
      cases q2
      have ew : s.vm.Alike t.vm := by rw [← e2]; exact X'.warmed.alike
      have w1 := w p e R s m args below meth c T'.heap (locs ++ L) ls C h1 h2 h3 (by omega) (by rw [e1]; exact q3.moved ew.symm) (va_Sjoin hV h0 e1 hL q4) hl
      have c1 : hS (ρ2 r).2 - hS G0 = hS G - hS G0 + (hS (ρ2 r).2 - hS G) := by omega
      have c2 : hM (ρ2 r).2 - hM G0 = hM G - hM G0 + (hM (ρ2 r).2 - hM G) := by omega
      rw [c1, c2] at w1
      obtain ⟨t2, a1, b1⟩ := w1 T' rfl X'
      refine ⟨t2, go t2 ?_, b1⟩
      have : (v.toList ++ rest).map cv = (v.map cv).toList ++ rest.map cv := by cases v <;> rfl
      rw [this] at a1
      exact a1
    · rw [hend] at q1
      cases q1
  | inr q9 =>
    obtain ⟨⟨n1, n2⟩, w⟩ := kx r q9 hend r2 hKr
    refine ⟨⟨Nat.le_trans m1 n1, Nat.le_trans m2 n2⟩, fun p e R s m args below meth c H locs ls C h1 h2 h3 h4 hP hV hl => ?_⟩
    have g1 := hP.1
    have g2 := hV.1
    intro T hT X
    rcases run p e R s m args below meth c H locs ls _ _ C hP hV hl.1 (by omega) (by omega) T hT X with ⟨v9, st₀, t, T', L, h0, X', hL, e1, e2, ⟨v8, q1, q2, q3, q4⟩, go⟩ | ⟨q, st₀, t, T', L, E, ce, h0, X', hL, e1, e2, ⟨q1, q2, q3, q4, q5, q6⟩, y1, y2, y3, go⟩
    · rw [hend] at q1
      cases q1
    · rw [hend] at q1
      cases q1
      have ew : s.vm.Alike t.vm := by rw [← e2]; exact X'.warmed.alike
      have w1 := w p e R s m args below meth c T'.heap (locs ++ L) ls C h1 h2 h3 (by omega) (by rw [e1]; exact q5.moved ew.symm) (va_Sjoin hV h0 e1 hL q6) hl (Nat.succ_pos _) q4 q3 ⟨ce, by rw [e1]; exact y1, y2, by rw [← q2]; exact y3⟩
      have c1 : hS (ρ2 r).2 - hS G0 = hS G - hS G0 + (hS (ρ2 r).2 - hS G) := by omega
      have c2 : hM (ρ2 r).2 - hM G0 = hM G - hM G0 + (hM (ρ2 r).2 - hM G) := by omega
      rw [c1, c2] at w1
      obtain ⟨t2, a1, b1⟩ := w1 T' rfl X'
      exact ⟨t2, go.trans a1, b1⟩
end AWc
section AWd
variable {α : Type} {ρ : α → EN} {γ : GP} {l : Launch} {k : CK} {G0 G : AH} {pc pc' len : Nat} {lv lv' : List (Nat × Value)} {st st' stk rest As : List Value}
/-! binds: an answer and the heap behind it -/
def bI {β : Type} (x : Option (Int32 × AH)) (K : Int32 → AH → Option β) : Option β := x.bind (fun r => K r.1 r.2)
def bR {β : Type} (x : Option (Nat × AH)) (K : Nat → AH → Option β) : Option β := x.bind (fun r => K r.1 r.2)
def bV {β : Type} (x : Option AH) (K : AH → Option β) : Option β := x.bind K
def bF {β : Type} (x : Option (UInt32 × AH)) (K : UInt32 → AH → Option β) : Option β := x.bind (fun r => K r.1 r.2)
def bD {β : Type} (x : Option (UInt64 × AH)) (K : UInt64 → AH → Option β) : Option β := x.bind (fun r => K r.1 r.2)
/-- .. of what may throw: T goes on with the thrown object -/
def bXI {β : Type} (x : Option ((Int32 × AH) ⊕ (Nat × AH))) (T : Nat → AH → Option β) (K : Int32 → AH → Option β) : Option β := x.bind (fun r => match r with | .inl r => K r.1 r.2 | .inr q => T q.1 q.2)
def bXR {β : Type} (x : Option ((Nat × AH) ⊕ (Nat × AH))) (T : Nat → AH → Option β) (K : Nat → AH → Option β) : Option β := x.bind (fun r => match r with | .inl r => K r.1 r.2 | .inr q => T q.1 q.2)
def bXV {β : Type} (x : Option (AH ⊕ (Nat × AH))) (T : Nat → AH → Option β) (K : AH → Option β) : Option β := x.bind (fun r => match r with | .inl r => K r | .inr q => T q.1 q.2)
def bXF {β : Type} (x : Option ((UInt32 × AH) ⊕ (Nat × AH))) (T : Nat → AH → Option β) (K : UInt32 → AH → Option β) : Option β := x.bind (fun r => match r with | .inl r => K r.1 r.2 | .inr q => T q.1 q.2)
def bXD {β : Type} (x : Option ((UInt64 × AH) ⊕ (Nat × AH))) (T : Nat → AH → Option β) (K : UInt64 → AH → Option β) : Option β := x.bind (fun r => match r with | .inl r => K r.1 r.2 | .inr q => T q.1 q.2)
theorem r_cI {x : Option (Int32 × AH)} {K : Int32 → AH → Option α} (hrun : RunOK ρI γ l k pc len stk rest G x) (kk : ∀ v G1, AW ρ γ l k G0 (pc + len) lv (.int v :: rest) G1 (K v G1)) : AW ρ γ l k G0 pc lv stk G (bI x K) :=
  AW_call hrun (fun r v h => by cases h; exact kk r.1 r.2) (fun r q h => by cases h)
theorem r_cR {x : Option (Nat × AH)} {K : Nat → AH → Option α} (hrun : RunOK ρR γ l k pc len stk rest G x) (kk : ∀ v G1, AW ρ γ l k G0 (pc + len) lv (.ref v :: rest) G1 (K v G1)) : AW ρ γ l k G0 pc lv stk G (bR x K) :=
  AW_call hrun (fun r v h => by cases h; exact kk r.1 r.2) (fun r q h => by cases h)
theorem r_cV {x : Option AH} {K : AH → Option α} (hrun : RunOK ρV γ l k pc len stk rest G x) (kk : ∀ G1, AW ρ γ l k G0 (pc + len) lv rest G1 (K G1)) : AW ρ γ l k G0 pc lv stk G (bV x K) :=
  AW_call hrun (fun r v h => by cases h; exact kk r) (fun r q h => by cases h)
theorem r_cF {x : Option (UInt32 × AH)} {K : UInt32 → AH → Option α} (hrun : RunOK ρF γ l k pc len stk rest G x) (kk : ∀ v G1, AW ρ γ l k G0 (pc + len) lv (.float v :: rest) G1 (K v G1)) : AW ρ γ l k G0 pc lv stk G (bF x K) :=
  AW_call hrun (fun r v h => by cases h; exact kk r.1 r.2) (fun r q h => by cases h)
theorem r_cD {x : Option (UInt64 × AH)} {K : UInt64 → AH → Option α} (hrun : RunOK ρD γ l k pc len stk rest G x) (kk : ∀ v G1, AW ρ γ l k G0 (pc + len) lv (.double v :: rest) G1 (K v G1)) : AW ρ γ l k G0 pc lv stk G (bD x K) :=
  AW_call hrun (fun r v h => by cases h; exact kk r.1 r.2) (fun r q h => by cases h)
/-- q thrown at pc, over what lies on the stack -/
def AX {α : Type} (ρ : α → EN) (γ : GP) (l : Launch) (k : CK) (G0 : AH) (pc : Nat) (lv : List (Nat × Value)) (G : AH) (q : Nat) (x : Option α) : Prop :=
  ∀ r2 : α, x = some r2 → (hS G ≤ hS (ρ r2).2 ∧ hM G ≤ hM (ρ r2).2) ∧
    ∀ (p : Program) (e : Env) (R : Room) (s : State) (m : MethodId) (args : Array Value) (below : List Frame) (meth : Method) (c : Code) (H : Heap) (locs : List Loc) (ls : Array Slot) (rest : List Value),
      Cx γ k p R s m args meth c → hS (ρ r2).2 - hS G0 ≤ R.cells → hM (ρ r2).2 - hM G0 ≤ R.slots → s.heap.size + 1 = hS G0 → hM G0 ≤ hM G → Rep γ s G H → va_S (Af γ) s.heap H locs → lv_has ls k.2.2.1 (lvc lv) →
      0 < q → hK G q ≠ 0 → hK G q < 100 → (∃ ce : Cell, H[q - 1]? = some ce ∧ ce.vm = .none ∧ s.vm.findClass (cN (hK G q)) = some ce.cls) →
      vx_W p l e R s m args below meth c H locs (hS G - hS G0) (hM G - hM G0) (vx_MQ below (QR γ (ρ r2)) (XR γ (ρ r2)) args s (hS (ρ r2).2 - hS G0) (hM (ρ r2).2 - hM G0) (Af γ)) (F0 m pc ls rest) (q - 1)
theorem r_cXI {x : Option ((Int32 × AH) ⊕ (Nat × AH))} {T : Nat → AH → Option α} {K : Int32 → AH → Option α} (hrun : RunOK (ρX ρI) γ l k pc len stk rest G x) (kx : ∀ q G1, AX ρ γ l k G0 pc lv G1 q (T q G1)) (kk : ∀ v G1, AW ρ γ l k G0 (pc + len) lv (.int v :: rest) G1 (K v G1)) : AW ρ γ l k G0 pc lv stk G (bXI x T K) :=
  AW_call hrun (fun r v h => by cases r <;> cases h; exact kk _ _) (fun r q h r2 h2 => by
    cases r <;> cases h
    exact ⟨(kx _ _ r2 h2).1, fun p e R s m args below meth c H locs ls => (kx _ _ r2 h2).2 p e R s m args below meth c H locs ls _⟩)
theorem r_cXR {x : Option ((Nat × AH) ⊕ (Nat × AH))} {T : Nat → AH → Option α} {K : Nat → AH → Option α} (hrun : RunOK (ρX ρR) γ l k pc len stk rest G x) (kx : ∀ q G1, AX ρ γ l k G0 pc lv G1 q (T q G1)) (kk : ∀ v G1, AW ρ γ l k G0 (pc + len) lv (.ref v :: rest) G1 (K v G1)) : AW ρ γ l k G0 pc lv stk G (bXR x T K) :=
  AW_call hrun (fun r v h => by cases r <;> cases h; exact kk _ _) (fun r q h r2 h2 => by
    cases r <;> cases h
    exact ⟨(kx _ _ r2 h2).1, fun p e R s m args below meth c H locs ls => (kx _ _ r2 h2).2 p e R s m args below meth c H locs ls _⟩)
theorem r_cXV {x : Option (AH ⊕ (Nat × AH))} {T : Nat → AH → Option α} {K : AH → Option α} (hrun : RunOK (ρX ρV) γ l k pc len stk rest G x) (kx : ∀ q G1, AX ρ γ l k G0 pc lv G1 q (T q G1)) (kk : ∀ G1, AW ρ γ l k G0 (pc + len) lv rest G1 (K G1)) : AW ρ γ l k G0 pc lv stk G (bXV x T K) :=
  AW_call hrun (fun r v h => by cases r <;> cases h; exact kk _) (fun r q h r2 h2 => by
    cases r <;> cases h
    exact ⟨(kx _ _ r2 h2).1, fun p e R s m args below meth c H locs ls => (kx _ _ r2 h2).2 p e R s m args below meth c H locs ls _⟩)
theorem r_cXF {x : Option ((UInt32 × AH) ⊕ (Nat × AH))} {T : Nat → AH → Option α} {K : UInt32 → AH → Option α} (hrun : RunOK (ρX ρF) γ l k pc len stk rest G x) (kx : ∀ q G1, AX ρ γ l k G0 pc lv G1 q (T q G1)) (kk : ∀ v G1, AW ρ γ l k G0 (pc + len) lv (.float v :: rest) G1 (K v G1)) : AW ρ γ l k G0 pc lv stk G (bXF x T K) :=
  AW_call hrun (fun r v h => by cases r <;> cases h; exact kk _ _) (fun r q h r2 h2 => by
    cases r <;> cases h
    exact ⟨(kx _ _ r2 h2).1, fun p e R s m args below meth c H locs ls => (kx _ _ r2 h2).2 p e R s m args below meth c H locs ls _⟩)
theorem r_cXD {x : Option ((UInt64 × AH) ⊕ (Nat × AH))} {T : Nat → AH → Option α} {K : UInt64 → AH → Option α} (hrun : RunOK (ρX ρD) γ l k pc len stk rest G x) (kx : ∀ q G1, AX ρ γ l k G0 pc lv G1 q (T q G1)) (kk : ∀ v G1, AW ρ γ l k G0 (pc + len) lv (.double v :: rest) G1 (K v G1)) : AW ρ γ l k G0 pc lv stk G (bXD x T K) :=
  AW_call hrun (fun r v h => by cases r <;> cases h; exact kk _ _) (fun r q h r2 h2 => by
    cases r <;> cases h
    exact ⟨(kx _ _ r2 h2).1, fun p e R s m args below meth c H locs ls => (kx _ _ r2 h2).2 p e R s m args below meth c H locs ls _⟩)
/-- it goes on to the caller -/
def thr {α : Type} (q : Nat) (G : AH) : Option (α ⊕ (Nat × AH)) := some (.inr (q, G))
theorem x_out {q : Nat} (hh : (tableOf k.2.2.2.2.2.1).all (fun z => !(covers z pc)) = true) : AX (ρX ρ) γ l k G0 pc lv G q (thr q G) := by
  intro r2 h
  cases h
  refine ⟨⟨Nat.le_refl _, Nat.le_refl _⟩, fun p e R s m args below meth c H locs ls rest C h1 h2 h3 h4 hP hV hl q0 q1 q2 ⟨ce, y1, y2, y3⟩ => ?_⟩
  refine vx_out (E := cN (hK G q)) (fun z hz => ?_) C.2.2.2.2.1 y1 y2 y3 (fun t ht hW => ?_) hV.2.2 (Nat.le_refl _) (Nat.le_refl _)
  · rw [C.2.2.2.2.2.2.2.1] at hz
    have h9 := List.all_eq_true.mp hh z hz
    cases hcv : covers z pc with
    | false => rfl
    | true => rw [hcv] at h9; cases h9
  · have e0 : q - 1 + 1 = q := by omega
    refine ⟨by show Sum.inr q = _; rw [e0], by rw [e0], by rw [e0]; exact q2, by rw [e0]; exact q1, by rw [ht]; exact hP.moved hW, hV.F ht⟩
/-- it's caught here; ahead of its handler stand those of pre, with the names of their classes -/
theorem x_catch {q c9 : Nat} {nm : String} {x : Option α} (pre : List ((Nat × Nat × Nat × Nat) × String)) (z : Nat × Nat × Nat × Nat) (suf : List (Nat × Nat × Nat × Nat)) (hsplit : k.2.2.2.2.2.1 = pre.map (fun y => y.1) ++ z :: suf)
    (hc : hK G q = c9) (hpre : ∀ y ∈ pre, y.1.2.2.2 ≠ 0 ∧ Cond.classLink k.1 y.1.2.2.2 y.2 ∈ lw_all ∧ (cN c9, y.2) ∈ sNC) (hcov : covers ⟨z.1, z.2.1, z.2.2.1, z.2.2.2⟩ pc = true) (h0 : z.2.2.2 ≠ 0) (hlink : Cond.classLink k.1 z.2.2.2 nm ∈ lw_all) (hcast : Cond.castable (cN c9) nm ∈ lw_mv) (kk : AW ρ γ l k G0 z.2.2.1 lv [.ref q] G x) : AX ρ γ l k G0 pc lv G q x := by
  intro r2 h2
  obtain ⟨m1, w⟩ := kk r2 h2
  refine ⟨m1, fun p e R s m args below meth c H locs ls rest C h1 h2 h3 h4 hP hV hl q0 q1 q2 ⟨ce, y1, y2, y3⟩ => ?_⟩
  subst hc
  have ht : tableOf (pre.map (fun y => y.1) ++ z :: suf) = tableOf (pre.map (fun y => y.1)) ++ ⟨z.1, z.2.1, z.2.2.1, z.2.2.2⟩ :: tableOf suf := by
    simp [tableOf]
  have hG := C.2.2.2.2.2.2.2.2.2.1
  refine vx_catch (E := cN (hK G q)) (name := nm) C.2.2.2.2.2.1 (tableOf (pre.map (fun y => y.1))) ⟨z.1, z.2.1, z.2.2.1, z.2.2.2⟩ (tableOf suf) (by rw [C.2.2.2.2.2.2.2.1, hsplit]; exact ht) (fun y hy => ?_) hcov h0 (C.2.2.2.2.2.2.2.2.1 _ hlink) ((hG.1 _ hcast).use rfl) y1 y2 y3 ?_
  · simp only [tableOf, List.mem_map] at hy
    obtain ⟨y2, ⟨y3, hy3, rfl⟩, rfl⟩ := hy
    obtain ⟨p1, p2, p3⟩ := hpre y3 hy3
    exact Or.inr ⟨p1, y3.2, C.2.2.2.2.2.2.2.2.1 _ p2, hG.2.2.2.2.2.1 _ p3⟩
  · have w1 := w p e R s m args below meth c H locs ls C h1 (by assumption) h3 h4 hP hV hl
    rw [List.map_cons, show cv (.ref q) = .ref (q - 1) from rv_pos (by omega)] at w1
    exact w1
theorem AX_chk {q : Nat} {P : Prop} [Decidable P] {x : Option α} (h : P → AX ρ γ l k G0 pc lv G q x) : AX ρ γ l k G0 pc lv G q (if P then x else none) := by
  intro r hr
  by_cases hP : P
  · rw [if_pos hP] at hr
    exact h hP r hr
  · rw [if_neg hP] at hr
    cases hr
theorem AX_if {q : Nat} {P : Prop} [Decidable P] {x y : Option α} (h1 : P → AX ρ γ l k G0 pc lv G q x) (h2 : ¬ P → AX ρ γ l k G0 pc lv G q y) : AX ρ γ l k G0 pc lv G q (if P then x else y) := by
  intro r hr
  by_cases hP : P
  · rw [if_pos hP] at hr
    exact h1 hP r hr
  · rw [if_neg hP] at hr
    exact h2 hP r hr
/-- athrow of an object that was made in this run -/
def tw {β : Type} (γ : GP) (G : AH) (q : Nat) (x : Option β) : Option β := if hK G q ≠ 0 ∧ hK G q < 100 ∧ γ.2 < q then x else none
theorem r_athrow {q : Nat} {x : Option α} (hd : decode k.2.1 pc = .ok (.athrow, 1)) (kx : AX ρ γ l k G0 pc lv G q x) : AW ρ γ l k G0 pc lv (.ref q :: st) G (tw γ G q x) := by
  refine AW_chk (fun hc r hr => ?_)
  obtain ⟨m1, w⟩ := kx r hr
  refine ⟨m1, fun p e R s m args below meth c H locs ls C h1 h2 h3 h4 hP hV hl => ?_⟩
  obtain ⟨h0, cell, g1, g2, g3, g4, g5, g6⟩ := hP.ob hc.1 hc.2.1
  rw [List.map_cons, show cv (.ref q) = .ref (q - 1) from rv_pos (by omega)]
  exact vx_athrow C.1 C.2.1 hd (w p e R s m args below meth c H locs ls (st.map cv) C h1 h2 h3 h4 hP hV hl h0 hc.1 hc.2.1 ⟨cell, g1, (g5 hc.2.2).1, g2⟩)
/-! natives -/
theorem pairs_at : ∀ (xs : List Value) (ce : Cell) (at_ i : Nat), ((ce.storePairs at_ (xs.zipIdx i)).slots.size = ce.slots.size ∧ ∀ j : Nat, j < ce.slots.size → (ce.storePairs at_ (xs.zipIdx i)).slots[j]? = (if at_ + i ≤ j ∧ j < at_ + i + xs.length then xs[j - (at_ + i)]? else ce.slots[j]?))
  | [], ce, at_, i => ⟨rfl, fun j _ => by
    rw [if_neg (by simp)]
    rfl⟩
  | v :: xs, ce, at_, i => by
    have hz : (ce.setSlot (at_ + i) v).slots.size = ce.slots.size := by
      show (ce.slots.setIfInBounds _ _).size = _
      simp
    obtain ⟨h1, h2⟩ := pairs_at xs (ce.setSlot (at_ + i) v) at_ (i + 1)
    refine ⟨h1.trans hz, fun j hj => ?_⟩
    have h3 := h2 j (by rw [hz]; exact hj)
    show ((ce.setSlot (at_ + i) v).storePairs at_ (xs.zipIdx (i + 1))).slots[j]? = _
    rw [h3]
    have hs : ∀ q : Nat, (ce.setSlot (at_ + i) v).slots[q]? = if q = at_ + i ∧ q < ce.slots.size then some v else ce.slots[q]? := fun q => by
      show (ce.slots.setIfInBounds (at_ + i) v)[q]? = _
      by_cases hq : q = at_ + i
      · subst hq
        by_cases hl : at_ + i < ce.slots.size
        · simp [hl]
        · simp [hl]
      · rw [if_neg (fun z => hq z.1)]
        simp [Ne.symm hq]
    by_cases c1 : at_ + (i + 1) ≤ j ∧ j < at_ + (i + 1) + xs.length
    · rw [if_pos c1, if_pos (by rw [List.length_cons]; omega)]
      have e : j - (at_ + i) = (j - (at_ + (i + 1))) + 1 := by omega
      rw [e, List.getElem?_cons_succ]
    · rw [if_neg c1, hs]
      by_cases c2 : j = at_ + i
      · subst c2
        rw [if_pos ⟨rfl, hj⟩, if_pos (by rw [List.length_cons]; omega), Nat.sub_self]
        rfl
      · rw [if_neg (fun z => c2 z.1), if_neg (by rw [List.length_cons]; omega)]
theorem copied_at {cs cd : Cell} {sp dp n : Int32} (h1 : sp.toNatClampNeg + n.toNatClampNeg ≤ cs.slots.size) (h2 : dp.toNatClampNeg + n.toNatClampNeg ≤ cd.slots.size) : (copied cs cd sp dp n).cls = cd.cls ∧ (copied cs cd sp dp n).vm = cd.vm ∧ (copied cs cd sp dp n).slots.size = cd.slots.size ∧ ∀ j : Nat, j < cd.slots.size → (copied cs cd sp dp n).slots[j]? = if dp.toNatClampNeg ≤ j ∧ j < dp.toNatClampNeg + n.toNatClampNeg then cs.slots[sp.toNatClampNeg + (j - dp.toNatClampNeg)]? else cd.slots[j]? := by
  have f := Cell.storePairs_facts cd dp.toNatClampNeg (cs.stretch sp.toNatClampNeg n.toNatClampNeg).zipIdx
  have e : copied cs cd sp dp n = cd.storePairs dp.toNatClampNeg (cs.stretch sp.toNatClampNeg n.toNatClampNeg).zipIdx := rfl
  rw [e]
  refine ⟨f.1, f.2.1, f.2.2.1, fun j hj => ?_⟩
  have h3 := (pairs_at (cs.stretch sp.toNatClampNeg n.toNatClampNeg) cd dp.toNatClampNeg 0).2 j hj
  have hlen : (cs.stretch sp.toNatClampNeg n.toNatClampNeg).length = n.toNatClampNeg := by simp [Cell.stretch]
  rw [h3, hlen, Nat.add_zero]
  by_cases c1 : dp.toNatClampNeg ≤ j ∧ j < dp.toNatClampNeg + n.toNatClampNeg
  · rw [if_pos c1, if_pos c1]
    unfold Cell.stretch
    rw [List.getElem?_map, List.getElem?_range (by omega), Option.map_some, Array.getD_eq_getD_getElem?]
    have : sp.toNatClampNeg + (j - dp.toNatClampNeg) < cs.slots.size := by omega
    rw [Array.getElem?_eq_getElem this]
    rfl
  · rw [if_neg c1, if_neg c1]
/-- G1 is G with the elements of the array a set by the row g -/
def PutR (G G1 : AH) (kd a : Nat) (g : Nat → Value) : Prop := hS G1 = hS G ∧ hK G1 = hK G ∧ hL G1 = hL G ∧ hI G1 = hI G ∧ hR G1 = hR G ∧ (∀ j, av G1 kd a j = g j) ∧ ∀ kd' b j : Nat, b ≠ a → av G1 kd' b j = av G kd' b j
theorem Rep.putR {s : State} {G1 : AH} {H H1 : Heap} (h : Rep γ s G H) {a kd : Nat} {g : Nat → Value} (hkd : 100 ≤ kd) (hk : hK G a = kd) (hp : PutR G G1 kd a g) {cell c1 : Cell} (hc : H[a - 1]? = some cell) (e1 : H1[a - 1]? = some c1) (x1 : c1.cls = cell.cls) (x2 : c1.vm = cell.vm) (x3 : c1.slots.size = cell.slots.size) (x4 : ∀ j, j < cell.slots.size → c1.slots[j]? = some (g j) ∧ fits (aTy kd) (g j) = true) (e2 : H1.size = H.size) (e3 : ∀ q, q ≠ a - 1 → H1[q]? = H[q]?) : Rep γ s G1 H1 := by
  obtain ⟨p1, p2, p3, p4, p5, p6, p7⟩ := hp
  have ha := (h.ar (a := a) (by omega)).1
  refine ⟨by rw [e2, p1]; exact h.1, by rw [e2]; exact h.2.1, fun b hb0 => ?_⟩
  rw [p2] at hb0 ⊢
  obtain ⟨r1, r2, r3⟩ := h.2.2 b hb0
  refine ⟨r1, fun hq => ?_, fun hq => ?_⟩
  · obtain ⟨cb, g1, g2, g3, g4, g5, g6⟩ := r2 hq
    have hba : b ≠ a := fun q => by rw [q] at hq; omega
    refine ⟨cb, by rw [e3 _ (by omega)]; exact g1, g2, g3, g4, g5, fun g hg => ?_⟩
    obtain ⟨cf', kc', i', fd', t1, t2, t3⟩ := g6 g hg
    refine ⟨cf', kc', i', fd', t1, t2, ?_⟩
    rw [t3]
    unfold fv
    rw [p4, p5]
  · obtain ⟨cb, g1, g2, g3, g4, g5, g6, g7⟩ := r3 hq
    by_cases hba : b = a
    · subst hba
      cases hc.symm.trans g1
      refine ⟨c1, e1, ?_, by rw [x2]; exact g3, by rw [p3, x3]; exact g4, fun j hj => ?_, fun q => by rw [x1]; exact g6 q, fun q => by rw [x1]; exact g7 q⟩
      · obtain ⟨y1, y2⟩ := g2
        exact ⟨by rw [x2]; exact y1, by rw [x1]; exact y2⟩
      · rw [p3] at hj
        rw [hk, p6 j]
        exact x4 j (by rw [g4]; exact hj)
    · refine ⟨cb, by rw [e3 _ (by omega)]; exact g1, g2, g3, by rw [p3]; exact g4, fun j hj => ?_, g6, g7⟩
      rw [p3] at hj
      rw [p7 _ _ _ hba]
      exact g5 j hj
theorem nnz {z : Int32} (hz : ¬ z < 0) : z.toInt = (z.toNatClampNeg : Int) := by
  have hz0 : (0 : Int) ≤ z.toInt := by
    have := Int32.not_lt.mp hz
    simpa using Int32.le_iff_toInt_le.mp this
  show z.toInt = ((z.toInt.toNat : Nat) : Int)
  omega
/-- what arraycopy asks -/
abbrev okCpy (γ : GP) (G : AH) (kd a0 a1 : Nat) (sp dp n : Int32) : Prop := hK G a0 = kd ∧ hK G a1 = kd ∧ γ.2 < a1 ∧ ¬ sp < 0 ∧ ¬ dp < 0 ∧ ¬ n < 0 ∧ sp.toNatClampNeg + n.toNatClampNeg ≤ hL G a0 ∧ dp.toNatClampNeg + n.toNatClampNeg ≤ hL G a1
theorem AW_copy {G1 : AH} {kd a0 a1 idx : Nat} {sp dp n : Int32} {x : Option α} (hkd3 : kd = 101 ∨ kd = 102 ∨ kd = 106) (hd : decode k.2.1 pc = .ok (.invokestatic idx, 3)) (hq : Cond.methodLink k.1 idx arraycopyName ∈ lw_all) (hnat : Cond.native arraycopyName ∈ lw_all) (hstat : Cond.static arraycopyName ∈ lw_all) (hini : Cond.initialized "java/lang/System" ∈ lw_all)
    (hok : okCpy γ G kd a0 a1 sp dp n) (hel : ∀ (s vm9 : State) (H : Heap) (comp : ClassId) (i : Nat), Rep γ s G H → i < n.toNatClampNeg → (s.vm.Alike vm9.vm) → vm9.heap = H → (kd = 106 → s.vm.findClass "java/lang/Object" = some comp) → (∀ w ∈ lw_mv, va_Nw w s) → vm9.takes comp (av G kd a0 (sp.toNatClampNeg + i)))
    (hp : PutR G G1 kd a1 (fun j => if dp.toNatClampNeg ≤ j ∧ j < dp.toNatClampNeg + n.toNatClampNeg then av G kd a0 (sp.toNatClampNeg + (j - dp.toNatClampNeg)) else av G kd a1 j)) (hM1 : hM G1 = hM G) (hdd : 2 ≤ k.2.2.2.2.2.2) (hw : (st.map fun v => v.category).sum ≤ 8) (kk : AW ρ γ l k G0 (pc + 3) lv st G1 x) : AW ρ γ l k G0 pc lv (.int n :: .int dp :: .ref a1 :: .int sp :: .ref a0 :: st) G x := by
  refine AW_step 0 0 hp.1 hM1 (fun p e R s m args below meth c H locs ls cells slots Q C hP hV hl _ _ w => ?_) kk
  obtain ⟨k0, k1, hb, h1, h2, h3, h4, h5⟩ := hok
  have hkd : 100 ≤ kd := by omega
  have hts := C.2.2.2.2.2.2.2.2.1
  obtain ⟨z0, c0, g1, g2, g3, g4, g5, g6, g7⟩ := hP.ar (a := a0) (by omega)
  obtain ⟨z1, c1, t1, t2, t3, t4, t5, t6, t7⟩ := hP.ar (a := a1) (by omega)
  rw [k0] at g2 g5 g6
  rw [k1] at t2 t5 t6
  obtain ⟨g2a, kA, hkA, comp0, hkind0⟩ := g2
  obtain ⟨t2a, kB, hkB, comp1, hkind1⟩ := t2
  have hr1 := C.2.2.2.2.2.2.2.2.2.2.1
  have hr2 := C.2.2.2.2.2.2.2.2.2.2.2
  have e0 : cv (.ref a0) = .ref (a0 - 1) := rv_pos (by omega)
  have e1 : cv (.ref a1) = .ref (a1 - 1) := rv_pos (by omega)
  intro T hT X
  obtain ⟨vm', X', step⟩ := X.arraycopy C.1 C.2.2.2.2.2.1 (hts _ hq) (hts _ hnat) (hts _ hstat) (hts _ hini) (src := a0 - 1) (dst := a1 - 1) (cs := c0) (cd := c1) (srcPos := sp) (destPos := dp) (n := n) (by rw [hT]; exact g1) (by rw [hT]; exact t1)
    g2a t2a g3 t3 hkA hkB hkind0 hkind1 (by rcases hkd3 with h | h | h <;> subst h <;> rfl) h1 h2 h3
    (by rw [nnz h1, nnz h3, g4]; omega)
    (by rw [nnz h2, nnz h3, t4]; omega)
    (fun vm₁ hal i hi => by
      have e : c0.slots.getD (sp.toNatClampNeg + i) .null = av G kd a0 (sp.toNatClampNeg + i) := by
        rw [Array.getD_eq_getD_getElem?, (g5 _ (by omega)).1]
        rfl
      rw [e]
      refine ⟨?_, hel s (T.setVm vm₁) H comp1 i hP hi hal hT (fun q => ?_) C.2.2.2.2.2.2.2.2.2.1.1⟩
      · exact (g5 _ (by omega)).2
      · obtain ⟨kA9, comp9, kc9, u1, u2, u3, u4⟩ := t6 q
        subst q
        cases hkB.symm.trans u1
        have e9 : Kind.array comp1 (.object "java/lang/Object") = Kind.array comp9 (.object "java/lang/Object") := hkind1.symm.trans u2
        cases e9
        exact u3)
    (g := F0 m pc ls (.int n :: .int dp :: .ref (a1 - 1) :: .int sp :: .ref (a0 - 1) :: st.map cv)) rfl (by rw [C.2.2.1]; exact hl.1) (rest := st.map cv) rfl (by rw [C.2.1]; exact hd) (by omega) (by
      show 2 * 0 + ((st.map cv).map fun v => v.category).sum + _ ≤ _
      rw [cats]
      have : nativeFrameWords "java/lang/System" "arraycopy" 5 ≤ 40 := by decide
      omega)
  have hl1 : a1 - 1 < H.size := (Array.getElem?_eq_some_iff.mp t1).1
  obtain ⟨y1, y2, y3, y4⟩ := copied_at (cs := c0) (cd := c1) (sp := sp) (dp := dp) (n := n) (by rw [g4]; exact h4) (by rw [t4]; exact h5)
  have hheap : ((T.setVm vm').setCell (a1 - 1) (copied c0 c1 sp dp n)).heap = H.setIfInBounds (a1 - 1) (copied c0 c1 sp dp n) := by rw [← hT]; rfl
  have oq : ∀ q : Nat, q ≠ a1 - 1 → (H.setIfInBounds (a1 - 1) (copied c0 c1 sp dp n))[q]? = H[q]? := fun q hq => by simp [Array.getElem?_setIfInBounds, Ne.symm hq]
  have hA : Af γ (a1 - 1) := by show γ.2 ≤ a1 - 1; omega
  obtain ⟨t, b1, b2⟩ := w _ _ (hP.putR hkd k1 hp t1 (show (H.setIfInBounds (a1 - 1) (copied c0 c1 sp dp n))[a1 - 1]? = some _ by simp [Array.getElem?_setIfInBounds, hl1]) y1 y2 y3 (fun j hj => by
      rw [y4 j hj]
      by_cases c9 : dp.toNatClampNeg ≤ j ∧ j < dp.toNatClampNeg + n.toNatClampNeg
      · rw [if_pos c9, if_pos c9]
        exact g5 _ (by omega)
      · rw [if_neg c9, if_neg c9]
        exact t5 j (by rw [← t4]; exact hj)) (by simp) oq) ⟨by simp; exact hV.1, fun q q1 q2 => by
      rw [oq q (fun e => q2 (by rw [e]; exact hA))]
      exact hV.2.1 q q1 q2, fun q hq => by
      rcases List.mem_append.mp hq with h | h
      · exact hV.2.2 q h
      · obtain ⟨z, -, hz⟩ := List.mem_map.mp h
        rw [← hz]
        exact hA⟩ _ hheap X'
  refine ⟨t, ?_, b2⟩
  rw [List.map_cons, List.map_cons, List.map_cons, List.map_cons, List.map_cons, e0, e1]
  exact step t b1
theorem put_Ar {kd a : Nat} {g : Nat → Int32} (hk : kd ≠ 104 ∧ kd ≠ 105 ∧ kd ≠ 106 ∧ kd ≠ 107) : PutR G (sAr G a g) kd a (fun j => .int (g j)) := by
  refine ⟨rfl, rfl, rfl, rfl, rfl, fun j => ?_, fun kd2 b j h => ?_⟩
  · unfold av
    show (if kd = 104 then Value.long (hJ G a j) else if kd = 105 then Value.double (hD G a j) else if kd = 106 ∨ kd = 107 then rv (hQ G a j) else Value.int (ur (hA G) a g a j)) = _
    simp [hk, ur]
  · unfold av
    show (if kd2 = 104 then Value.long (hJ G b j) else if kd2 = 105 then Value.double (hD G b j) else if kd2 = 106 ∨ kd2 = 107 then rv (hQ G b j) else Value.int (ur (hA G) a g b j)) = _
    simp only [ur, if_neg h]
theorem put_Qr {a : Nat} {g : Nat → Nat} : PutR G (sQr G a g) 106 a (fun j => rv (g j)) := by
  refine ⟨rfl, rfl, rfl, rfl, rfl, fun j => ?_, fun kd2 b j h => ?_⟩
  · unfold av
    show (if (106 : Nat) = 104 then Value.long (hJ G a j) else if (106 : Nat) = 105 then Value.double (hD G a j) else if (106 : Nat) = 106 ∨ (106 : Nat) = 107 then rv (ur (hQ G) a g a j) else Value.int (hA G a j)) = _
    simp [ur]
  · unfold av
    show (if kd2 = 104 then Value.long (hJ G b j) else if kd2 = 105 then Value.double (hD G b j) else if kd2 = 106 ∨ kd2 = 107 then rv (ur (hQ G) a g b j) else Value.int (hA G b j)) = _
    simp only [ur, if_neg h]
def nCA {β : Type} (γ : GP) (G : AH) (kd a0 : Nat) (sp : Int32) (a1 : Nat) (dp n : Int32) (K : AH → Option β) : Option β := if okCpy γ G kd a0 a1 sp dp n then K (sAr G a1 (va_cpy (hA G a0) (hA G a1) sp.toNatClampNeg dp.toNatClampNeg n.toNatClampNeg)) else none
def nCQ {β : Type} (γ : GP) (G : AH) (a0 : Nat) (sp : Int32) (a1 : Nat) (dp n : Int32) (K : AH → Option β) : Option β := if okCpy γ G 106 a0 a1 sp dp n ∧ ∀ i : Nat, i < n.toNatClampNeg → (hQ G a0 (sp.toNatClampNeg + i) = 0 ∨ hK G (hQ G a0 (sp.toNatClampNeg + i)) ∈ stO) then K (sQr G a1 (va_cpy (hQ G a0) (hQ G a1) sp.toNatClampNeg dp.toNatClampNeg n.toNatClampNeg)) else none
theorem r_copyA {K : AH → Option α} {kd a0 a1 idx : Nat} {sp dp n : Int32} (hkd : kd = 101 ∨ kd = 102) (hd : decode k.2.1 pc = .ok (.invokestatic idx, 3)) (hq : Cond.methodLink k.1 idx arraycopyName ∈ lw_all) (hnat : Cond.native arraycopyName ∈ lw_all) (hstat : Cond.static arraycopyName ∈ lw_all) (hini : Cond.initialized "java/lang/System" ∈ lw_all) (hdd : 2 ≤ k.2.2.2.2.2.2) (hw : (st.map fun v => v.category).sum ≤ 8) (kk : ∀ G1, AW ρ γ l k G0 (pc + 3) lv st G1 (K G1)) : AW ρ γ l k G0 pc lv (.int n :: .int dp :: .ref a1 :: .int sp :: .ref a0 :: st) G (nCA γ G kd a0 sp a1 dp n K) := by
  have hkd4 : kd ≠ 104 ∧ kd ≠ 105 ∧ kd ≠ 106 ∧ kd ≠ 107 := by omega
  refine AW_chk (fun hx => AW_copy (G1 := sAr G a1 (va_cpy (hA G a0) (hA G a1) sp.toNatClampNeg dp.toNatClampNeg n.toNatClampNeg)) (kd := kd) (by omega) hd hq hnat hstat hini hx (fun s vm9 H comp i _ _ _ _ _ _ => ?_) ?_ rfl hdd hw (kk _))
  · unfold av
    simp [hkd4]
    exact trivial
  · have h := put_Ar (G := G) (a := a1) (g := va_cpy (hA G a0) (hA G a1) sp.toNatClampNeg dp.toNatClampNeg n.toNatClampNeg) hkd4
    refine ⟨h.1, h.2.1, h.2.2.1, h.2.2.2.1, h.2.2.2.2.1, fun j => ?_, h.2.2.2.2.2.2⟩
    rw [h.2.2.2.2.2.1 j]
    unfold av
    simp only [hkd4, if_false, or_self, va_cpy]
    split <;> rfl
theorem r_copyQ {K : AH → Option α} {a0 a1 idx : Nat} {sp dp n : Int32} (hd : decode k.2.1 pc = .ok (.invokestatic idx, 3)) (hq : Cond.methodLink k.1 idx arraycopyName ∈ lw_all) (hnat : Cond.native arraycopyName ∈ lw_all) (hstat : Cond.static arraycopyName ∈ lw_all) (hini : Cond.initialized "java/lang/System" ∈ lw_all) (hdd : 2 ≤ k.2.2.2.2.2.2) (hw : (st.map fun v => v.category).sum ≤ 8) (kk : ∀ G1, AW ρ γ l k G0 (pc + 3) lv st G1 (K G1)) : AW ρ γ l k G0 pc lv (.int n :: .int dp :: .ref a1 :: .int sp :: .ref a0 :: st) G (nCQ γ G a0 sp a1 dp n K) := by
  refine AW_chk (fun hx => AW_copy (G1 := sQr G a1 (va_cpy (hQ G a0) (hQ G a1) sp.toNatClampNeg dp.toNatClampNeg n.toNatClampNeg)) (kd := 106) (by omega) hd hq hnat hstat hini hx.1 (fun s vm9 H comp i hP hi hal hH hcomp hmv => ?_) ?_ rfl hdd hw (kk _))
  · have e : av G 106 a0 (sp.toNatClampNeg + i) = rv (hQ G a0 (sp.toNatClampNeg + i)) := rfl
    rw [e]
    rcases hx.2 i hi with h0 | h0
    · rw [h0]
      exact trivial
    · have hvo : hK G (hQ G a0 (sp.toNatClampNeg + i)) ≠ 0 ∧ hK G (hQ G a0 (sp.toNatClampNeg + i)) < 100 := by
        have : ∀ c ∈ stO, c ≠ 0 ∧ c < 100 := by decide
        exact this _ h0
      obtain ⟨hv0, ce1, x1, x2, x3, x4, -⟩ := hP.ob hvo.1 hvo.2
      rw [show rv (hQ G a0 (sp.toNatClampNeg + i)) = .ref (hQ G a0 (sp.toNatClampNeg + i) - 1) from rv_pos (by omega)]
      obtain ⟨c3, c4, hc3, hc4, hasg⟩ := Cond.castable_spec ((hmv _ (stO_cast _ h0)).use (A := #[]) rfl)
      cases Option.some.inj (hc3.symm.trans x2)
      cases Option.some.inj (hc4.symm.trans (hcomp rfl))
      obtain ⟨kC, hkC, -⟩ := Vm.findClass_spec x2
      obtain ⟨kE, hkE, -⟩ := Vm.findClass_spec (hcomp rfl)
      obtain ⟨kC', hkC', -⟩ := hal.2.2 _ _ hkC
      obtain ⟨kE', hkE', -⟩ := hal.2.2 _ _ hkE
      refine ⟨ce1, (by rw [hH]; exact x1), (fun q h => by rw [h] at x4; cases x4), ⟨kC', hkC'⟩, ⟨kE', hkE'⟩, ?_⟩
      rw [hal.assignable]
      exact hasg
  · have h := put_Qr (G := G) (a := a1) (g := va_cpy (hQ G a0) (hQ G a1) sp.toNatClampNeg dp.toNatClampNeg n.toNatClampNeg)
    refine ⟨h.1, h.2.1, h.2.2.1, h.2.2.2.1, h.2.2.2.2.1, fun j => ?_, h.2.2.2.2.2.2⟩
    rw [h.2.2.2.2.2.1 j]
    show rv (va_cpy (hQ G a0) (hQ G a1) sp.toNatClampNeg dp.toNatClampNeg n.toNatClampNeg j) = if _ then rv _ else rv _
    unfold va_cpy
    split <;> rfl
theorem r_objInit {idx a : Nat} {x : Option α} (hd : decode k.2.1 pc = .ok (.invokespecial idx, 3)) (h1 : Cond.methodLink k.1 idx objectInit ∈ lw_all) (h2 : Cond.instanceMethod objectInit ∈ lw_all) (h3 : Cond.code objectInit ⟨#[0xb1]⟩ 1 none ∈ lw_all) (hdd : 1 ≤ k.2.2.2.2.2.2) (hw : (st.map fun v => v.category).sum ≤ 8) (kk : AW ρ γ l k G0 (pc + 3) lv st G x) : AW ρ γ l k G0 pc lv (.ref a :: st) G (if a ≠ 0 then x else none) := by
  refine AW_chk (fun hx => AW_same (fun p e R s m args below meth c H locs ls cells slots Q C hP hV hl w => ?_) kk)
  have hts := C.2.2.2.2.2.2.2.2.1
  have hr1 := C.2.2.2.2.2.2.2.2.2.2.1
  have hr2 := C.2.2.2.2.2.2.2.2.2.2.2
  rw [List.map_cons, show cv (.ref a) = .ref (a - 1) from rv_pos hx]
  refine W.objInit C.1 C.2.1 C.2.2.2.2.2.1 (hts _ h1) (hts _ h2) (hts _ h3) rfl (by rw [C.2.2.1]; exact hl.1) rfl hd (by omega) (by
    show 2 * 0 + ((st.map cv).map fun v => v.category).sum + 12 ≤ _
    rw [cats]
    omega) w
theorem r_getC {idx a i : Nat} {K : Nat → Option α} (hd : decode k.2.1 pc = .ok (.invokevirtual idx, 3)) (h1 : Cond.methodLink k.1 idx ⟨"java/lang/Object", "getClass", "()Ljava/lang/Class;"⟩ ∈ lw_all) (h2 : Cond.declares ⟨"java/lang/Object", "getClass", "()Ljava/lang/Class;"⟩ ∈ lw_mv) (h3 : Cond.selects "[Ljava/lang/Object;" ⟨"java/lang/Object", "getClass", "()Ljava/lang/Class;"⟩ ⟨"java/lang/Object", "getClass", "()Ljava/lang/Class;"⟩ ∈ lw_all) (h4 : Cond.instanceMethod ⟨"java/lang/Object", "getClass", "()Ljava/lang/Class;"⟩ ∈ lw_all) (h5 : Cond.native ⟨"java/lang/Object", "getClass", "()Ljava/lang/Class;"⟩ ∈ lw_all) (hm : (i, "[Ljava/lang/Object;") ∈ sMI) (hdd : 1 ≤ k.2.2.2.2.2.2) (hw : (st.map fun v => v.category).sum ≤ 8) (kk : AW ρ γ l k G0 (pc + 3) lv (.ref (γ.1 i) :: st) G (K (γ.1 i))) : AW ρ γ l k G0 pc lv (.ref a :: st) G (if hK G a = 106 then K (γ.1 i) else none) := by
  refine AW_chk (fun hx => AW_same (fun p e R s m args below meth c H locs ls cells slots Q C hP hV hl w => ?_) kk)
  have hts := C.2.2.2.2.2.2.2.2.1
  have hG := C.2.2.2.2.2.2.2.2.2.1
  have hr1 := C.2.2.2.2.2.2.2.2.2.2.1
  have hr2 := C.2.2.2.2.2.2.2.2.2.2.2
  obtain ⟨q0, q1⟩ := hG.2.2.2.2.1 _ hm
  obtain ⟨z0, c0, g1, g2, g3, g4, g5, g6, g7⟩ := hP.ar (a := a) (by omega)
  rw [List.map_cons, show cv (.ref (γ.1 i)) = .ref (γ.1 i - 1) from rv_pos (Nat.ne_of_gt q0)] at w
  rw [List.map_cons, show cv (.ref a) = .ref (a - 1) from rv_pos (by omega)]
  refine va_getC C.1 C.2.1 (by rw [C.2.2.1]; exact hl.1.symm) C.2.2.2.2.2.1 (hts _ h1) ((hG.1 _ h2).use rfl) (hts _ h3) (hts _ h4) (hts _ h5) q1 ⟨c0, g1, ?_, ?_⟩ (by omega) (by rw [cats]; omega) hd w
  · cases hcv : c0.vm <;> first | rfl | exact absurd hcv (g2.1 _)
  · rw [hx] at g7
    exact g7 (Or.inr rfl)
/-- a clone of a byte array -/
def nCl (G : AH) (a : Nat) : AH := sAr (nA G 102 (hL G a)) (hS G) (hA G a)
theorem r_clone {idx a : Nat} {K : Nat → AH → Option α} (hd : decode k.2.1 pc = .ok (.invokevirtual idx, 3)) (h1 : Cond.methodLink k.1 idx ⟨"[B", "clone", "()Ljava/lang/Object;"⟩ ∈ lw_all) (h2 : Cond.sameMethod "[B" "java/lang/Object" "clone" "()Ljava/lang/Object;" ∈ lw_all) (h3 : Cond.native ⟨"java/lang/Object", "clone", "()Ljava/lang/Object;"⟩ ∈ lw_all) (h4 : Cond.instanceMethod ⟨"java/lang/Object", "clone", "()Ljava/lang/Object;"⟩ ∈ lw_all) (h5 : Cond.selects "[B" ⟨"[B", "clone", "()Ljava/lang/Object;"⟩ ⟨"java/lang/Object", "clone", "()Ljava/lang/Object;"⟩ ∈ lw_all) (h6 : Cond.castable "[B" "java/lang/Cloneable" ∈ lw_mv) (hdd : 1 ≤ k.2.2.2.2.2.2) (hw : (st.map fun v => v.category).sum ≤ 8) (kk : ∀ (q : Nat) (G1 : AH), AW ρ γ l k G0 (pc + 3) lv (.ref q :: st) G1 (K q G1)) : AW ρ γ l k G0 pc lv (.ref a :: st) G (if hK G a = 102 then K (hS G) (nCl G a) else none) := by
  refine AW_chk (fun hx => AW_step (G1 := nCl G a) 1 (hL G a) rfl rfl (fun p e R s m args below meth c9 H locs ls cells slots Q C hP hV hl hc hs w => ?_) (kk (hS G) _))
  have hH := hP.1
  have e0 : cv (.ref (hS G)) = .ref H.size := by rw [← hH]; rfl
  have hts := C.2.2.2.2.2.2.2.2.1
  have hG := C.2.2.2.2.2.2.2.2.2.1
  have hr1 := C.2.2.2.2.2.2.2.2.2.2.1
  have hr2 := C.2.2.2.2.2.2.2.2.2.2.2
  obtain ⟨z0, c0, g1, g2, g3, g4, g5, g6, g7⟩ := hP.ar (a := a) (by omega)
  rw [hx] at g2 g5 g7
  have hnm : s.vm.findClass "[B" = some c0.cls := g7 (Or.inl rfl)
  obtain ⟨g2a, kA, hkA, comp, hkind⟩ := g2
  obtain ⟨c1, t0', f1, f2, f3⟩ := Cond.castable_spec ((hG.1 _ h6).use (A := args) rfl)
  cases hnm.symm.trans f1
  rw [List.map_cons, e0] at w
  rw [List.map_cons, show cv (.ref a) = .ref (a - 1) from rv_pos (by omega)]
  intro T hT X
  have hcellT : T.heap[a - 1]? = some c0 := by rw [hT]; exact g1
  obtain ⟨k9, hk9, he9⟩ := X.warmed.alike.2.2 _ _ hkA
  obtain ⟨vm', X', st9⟩ := X.cloneArray C.1 C.2.2.2.2.2.1 (hts _ h1) (hts _ h2) (hts _ h3) (hts _ h4) (hts _ h5) (a := a - 1) (cell := c0) hcellT g2a g3 hnm f2 f3
    (fun i v hv => by
      have hi : i < hL G a := by
        rw [← g4]
        exact (Array.getElem?_eq_some_iff.mp hv).1
      obtain ⟨y1, y2⟩ := g5 i hi
      cases hv.symm.trans y1
      have hk' : T.vm.classes[c0.cls]? = some k9 := hk9
      have hkd : k9.kind = .array comp (aTy 102) := by rw [he9]; exact hkind
      cases hvm : c0.vm <;> first | (exact absurd hvm (g2a _)) | simpa [State.fitsSlot, State.slotType?, hk', hkd] using y2)
    (g := F0 m pc ls (.ref (a - 1) :: st.map cv)) rfl (by rw [C.2.2.1]; exact hl.1) rfl (by rw [C.2.1]; exact hd) (by omega) (by
      show 2 * 0 + ((st.map cv).map fun v => v.category).sum + 14 ≤ _
      rw [cats]
      omega) hc (by rw [g4]; exact hs) (hloader := Vm.clonesLoader_of_array hkA hkind)
  rw [g4] at X'
  have e1 : (H.push ({ cls := c0.cls, slots := c0.slots } : Cell))[H.size]? = some ({ cls := c0.cls, slots := c0.slots } : Cell) := by simp
  have z3 : ∀ q, q < H.size → (H.push ({ cls := c0.cls, slots := c0.slots } : Cell))[q]? = H[q]? := fun q hq => by rw [Array.getElem?_push, if_neg (Nat.ne_of_lt hq)]
  have hlt := hP.lt (a := a) (by omega)
  have hR1 : Rep γ s (nCl G a) (H.push ({ cls := c0.cls, slots := c0.slots } : Cell)) := by
    refine hP.push rfl (fun b hb => ?_) (by simp) z3 ⟨fun q => ?_, fun _ => ?_⟩
    · obtain ⟨n1, n2, n3, n4⟩ := nA_ne (G := G) (kd := 102) (n := hL G a) hb
      exact ⟨n1, n2, n3, fun kd i => by rw [← n4 kd i]; exact (put_Ar (G := nA G 102 (hL G a)) (kd := 102) (a := hS G) (g := hA G a) (by decide)).2.2.2.2.2.2 kd b i hb⟩
    · have e9 : hK (nCl G a) (hS G) = 102 := nA_K (n := hL G a)
      rw [e9] at q
      omega
    · have e9 : hK (nCl G a) (hS G) = 102 := nA_K (n := hL G a)
      have e8 : hL (nCl G a) (hS G) = hL G a := nA_L (kd := 102)
      rw [e9]
      refine ⟨({ cls := c0.cls, slots := c0.slots } : Cell), (by rw [← hH]; exact e1), ⟨(fun k h => by cases h), kA, hkA, comp, hkind⟩, (fun h => by cases h), (by rw [e8]; exact g4), fun i hi => ?_, (fun h => by cases h), fun _ => hnm⟩
      rw [e8] at hi
      have e7 : av (nCl G a) 102 (hS G) i = av G 102 a i := (put_Ar (G := nA G 102 (hL G a)) (kd := 102) (a := hS G) (g := hA G a) (by decide)).2.2.2.2.2.1 i
      rw [e7]
      exact g5 i hi
  obtain ⟨t, b1, b2⟩ := w _ locs hR1 (va_Sgrow hV (by simp) z3) _ (by rw [← hT]; rfl) X'
  refine ⟨t, st9 t ?_, b2⟩
  have : (T.heap.size : Nat) = H.size := by rw [hT]
  simpa [this] using b1
/-! a callee that only returns a constant, walked within the call (its class has no word on its initialisation) -/
theorem k_inline {tb : Tables} [Ours tb] {e : Env} {s : State} {g : JFrame} {c : Code} {below : List Frame} {target : State} (h : At s g.method c below) (hexec : tb.exec = Jvm.exec) {m : MethodId} {meth : Method} {code : Code} {n : Int} {v : Int32} {n0 : Nat} {i0 ig : Instr} {ty : FieldType} {len : Nat} {args : Array Value} (acts : List Action)
    (hm : s.vm.method? m = some meth) (hc : meth.code = some code) (hl : meth.locks = false) (hp : s.plainMethod m) (hret : meth.sig.returnType = some ty) (hnar : narrow ty (.int v) = .int v)
    (h0 : decode code.code 0 = .ok (i0, n0)) (hi : (i0 = .iconst n ∧ Int32.ofInt n = v) ∨ (i0 = .bipush n ∧ (Int8.ofInt n).toInt32 = v)) (h1 : decode code.code n0 = .ok (.ireturn, 1))
    (hroom : e.platform.stackFull (((s.setTop g).threads[(s.setTop g).cur]?).getD { frames := [] }) (s.setTop g).frames code.maxLocals = false)
    (hdg : decode c.code g.pc = .ok (ig, len))
    (hrest : Steps tb e below (s.setTop { g with pc := g.pc + len, stack := (.int v) :: g.stack }) target) :
    Steps tb e below (doInvoke e (s.setTop g) acts m args).1 target := by
  rw [doInvoke_enter h.top acts hm hc hl hroom]
  have hA : At ((s.setTop g).pushFrame (.java (entryFrame m args code.maxLocals))) m code below := h.enter args hm hc hp
  have hfr := frames_entered (g := g) h.top (.java (entryFrame m args code.maxLocals))
  have hback : ((s.setTop g).pushFrame (.java (entryFrame m args code.maxLocals))).setFrames (.java g :: s.frames.tail) = s.setTop g :=
    setFrames_entered (s := s) (g := g) h.top (.java (entryFrame m args code.maxLocals))
  have hvm : ((s.setTop g).pushFrame (.java (entryFrame m args code.maxLocals))).vm = s.vm := rfl
  have hcg0 : ((s.setTop g).pushFrame (.java (entryFrame m args code.maxLocals))).code? g.method = some c := by
    have := h.code
    rw [State.code?_eq] at this ⊢
    simpa [State.pushFrame, State.setFrames] using this
  generalize (s.setTop g).pushFrame (.java (entryFrame m args code.maxLocals)) = u at hA hfr hback hvm hcg0 ⊢
  have hm' : u.vm.method? m = some meth := by rw [hvm]; exact hm
  unfold entryFrame
  rcases hi with ⟨hi, hv⟩ | ⟨hi, hv⟩
  · subst hi
    jvm_step hA [hexec, h0]
    jvm_step hA [hA.top, hexec, h1, hm', hret, hv, hnar]
    intro acts'
    rw [doReturn_leave (g := g) (meth := meth) (cg := c) (ig := ig) (len := len) acts' (show u.frames = _ from hfr) (show u.vm.method? m = some meth from hm') hl rfl rfl hcg0 hdg,
      hback, State.setTop_setTop]
    simpa using hrest
  · subst hi
    jvm_step hA [hexec, h0, Op.bipush.wp_sem]
    jvm_step hA [hA.top, hexec, h1, hm', hret, hv, hnar]
    intro acts'
    rw [doReturn_leave (g := g) (meth := meth) (cg := c) (ig := ig) (len := len) acts' (show u.frames = _ from hfr) (show u.vm.method? m = some meth from hm') hl rfl rfl hcg0 hdg,
      hback, State.setTop_setTop]
    simpa using hrest
theorem run_K {x9 y : MethodName} {b : ByteArray} {L idx a n9 c9 n0 : Nat} {i0 : Instr} {n : Int} {v : Int32} {ty : FieldType} {owner : String} (hd : decode k.2.1 pc = .ok (.invokevirtual idx, 3)) (h1 : Cond.methodLink k.1 idx x9 ∈ lw_all) (h2 : Cond.sameMethod x9.cls owner x9.name x9.desc ∈ lw_all) (h3 : Cond.selects (cN c9) x9 y ∈ lw_all) (h4 : Cond.instanceMethod y ∈ lw_all) (h6 : Cond.code y b L (some ty) ∈ lw_all)
    (h7 : (∃ b0 m0 r0, Cond.instanceMethod ⟨owner, x9.name, x9.desc⟩ ∈ lw_all ∧ Cond.code ⟨owner, x9.name, x9.desc⟩ b0 m0 r0 ∈ lw_all) ∨ Cond.declares ⟨owner, x9.name, x9.desc⟩ ∈ lw_mv)
    (hpl : plainFor y = true) (hb0 : decode b 0 = .ok (i0, n0)) (hi : (i0 = .iconst n ∧ Int32.ofInt n = v) ∨ (i0 = .bipush n ∧ (Int8.ofInt n).toInt32 = v)) (hb1 : decode b n0 = .ok (.ireturn, 1)) (hnar : narrow ty (.int v) = .int v)
    (hn : owner ≠ "java/lang/invoke/MethodHandle" ∧ owner ≠ "java/lang/invoke/VarHandle" ∧ (parseMethodDescriptor x9.desc).map (fun d => d.parameters.length) = some n9) (hAs : As.length = n9) (hc : hK G a = c9) (hcn : c9 ≠ 0 ∧ c9 < 100) (hdd : 1 + 1 ≤ k.2.2.2.2.2.2) (hL : L ≤ 45) (hst : stk = As.reverse ++ .ref a :: rest) (hw : (rest.map fun v => v.category).sum ≤ 8) : RunOK ρI γ l k pc 3 stk rest G (some (v, G)) := by
  intro r hr
  cases hr
  refine ⟨⟨Nat.le_refl _, Nat.le_refl _⟩, fun p e R s m args below meth c H locs ls cells slots C hP hV hls hc1 hs1 T hT X => Or.inl ?_⟩
  obtain ⟨e0, cellB, hcB, hoB, hclB⟩ := hP.recv hc hcn
  have hts := C.2.2.2.2.2.2.2.2.1
  have hmr := k_room C hdd hL
  have hdec : va_Decl s ⟨owner, x9.name, x9.desc⟩ := by
    rcases h7 with ⟨b0, m0, r0, q1, q2⟩ | q
    · exact va_Decl.of (hts _ q1) (hts _ q2)
    · exact va_Decl.abs (C.2.2.2.2.2.2.2.2.2.1.1 _ q)
  obtain ⟨r0, r, hn0, hrm, hstR, hsigR⟩ := hdec
  obtain ⟨cn, ck, r1, hcn1, hck, hni, hf, hn1⟩ := Cond.sameMethod_found (hts _ h2)
  cases hn0.symm.trans hn1
  obtain ⟨mk, methM, hnamed, hmethM, -, habM⟩ := Cond.instanceMethod_spec (hts _ h4)
  obtain ⟨c2, r2, m2, q1, q2, q3, q4, kP, hkP, hkPi⟩ := Cond.selects_spec (hts _ h3)
  obtain ⟨methM', cM, hmethM', hcM, hbM, hlM, hretM, hlocM, -, -⟩ := Cond.code_spec hnamed (hts _ h6)
  cases hmethM.symm.trans hmethM'
  cases hclB.symm.trans q1
  cases hf.symm.trans q2
  cases hnamed.symm.trans q3
  have hselP : selectMethod e.platform s.vm cellB.cls r0 = .method mk := by rw [Launch.admits_selectMethod X.admits]; exact q4
  have hlen : (As.map cv).length = r.sig.parameters.length := by
    rw [List.length_map, hAs]
    have h2 := hn.2.2
    rw [hsigR] at h2
    exact (Option.some.inj h2).symm
  obtain ⟨vm₁, X₁, hstep₁⟩ := X.invokevirtualUp C.1 C.2.2.2.2.2.1 (hts _ h1) (hts _ h2) ⟨hn.1, hn.2.1⟩ hn0 hrm hstR (a := a - 1) (cell := cellB) (by rw [hT]; exact hcB)
    (fun z h => by rw [h] at hoB; cases hoB) hselP hmethM habM hkP hkPi (g := F0 m pc ls (stk.map cv)) rfl (argsL := As.map cv) (rest := rest.map cv) hlen (by
      show stk.map cv = _
      rw [hst, List.map_append, List.map_reverse, List.map_cons, e0]) (by rw [C.2.1]; exact hd)
  refine ⟨some (.int v), T, T.setVm vm₁, T.setVm vm₁, [], hT, ?_, fun _ h => absurd h List.not_mem_nil, rfl, rfl, ⟨some (.int v), rfl, rfl, ?_, ?_⟩, ?_⟩
  · rw [List.append_nil, Nat.sub_self, Nat.sub_self]
    exact X₁
  · show Rep γ (T.setVm vm₁) G (T.setVm vm₁).heap
    have : (T.setVm vm₁).heap = H := hT
    rw [this]
    exact hP.moved X₁.warmed.alike
  · exact ⟨Nat.le_refl _, fun _ _ _ => rfl⟩
  · intro target htar
    refine hstep₁ target (fun acts => ?_)
    have hm1 : (T.setVm vm₁).vm.method? mk = some methM := by
      exact (X₁.warmed.alike.method? mk).trans hmethM
    refine k_inline (g := { F0 m pc ls (stk.map cv) with stack := rest.map cv }) (c := c) (X₁.here) C.1 acts hm1 hcM hlocM ?_ hretM hnar (by rw [hbM]; exact hb0) hi (by rw [hbM]; exact hb1) (X₁.notFull (g := { F0 m pc ls (stk.map cv) with stack := rest.map cv }) ?_ ?_ ?_) (ig := .invokevirtual idx) (len := 3) (by rw [C.2.1]; exact hd) ?_
    · exact State.plainMethod.of_named hpl (X₁.named hnamed) hm1
    · show ls.size = c.maxLocals
      rw [hls, C.2.2.1]
    · omega
    · have := mroom (rest := rest) (m := m) (pc := pc) (ls := ls) (s9 := rest.map cv) hw
      have h9 : 2 * ({ F0 m pc ls (stk.map cv) with stack := rest.map cv } : JFrame).monitorRoom + ((rest.map cv).map fun v => v.category).sum ≤ 8 := this
      show 2 * ({ F0 m pc ls (stk.map cv) with stack := rest.map cv } : JFrame).monitorRoom + ((rest.map cv).map fun v => v.category).sum + (cM.maxLocals + 11) ≤ R.locals
      omega
    · exact htar
/-! joins, strings by the wide ldc, a map behind an end -/
def jn {A B : Type} (j : A) (K : A → B) : B := K j
theorem AW_jn {A : Type} {P : A → Prop} {j : A} {K : A → Option α} (h : P j) (kk : ∀ j, P j → AW ρ γ l k G0 pc lv st G (K j)) : AW ρ γ l k G0 pc lv st G (jn j K) := kk j h
def FU : Nat := 4294967296
theorem r_map {β : Type} {ρ2 : β → EN} {x : Option β} {f : β → α} (hf : ∀ r, ρ (f r) = ρ2 r) (h : AW ρ2 γ l k G0 pc lv st G x) : AW ρ γ l k G0 pc lv st G (x.map f) := by
  intro r hr
  obtain ⟨r0, h0, h1⟩ := Option.map_eq_some_iff.mp hr
  rw [← h1, hf]
  exact h r0 h0
theorem va_ldcwS {p : Program} {e : Env} {R : Room} {s : State} {m : MethodId} {args : Array Value} {below : List Frame} {meth : Method} {c : Code} {H : Heap} {locs : List Loc} {cells slots pc : Nat} {ls : Array Slot} {rest : List Value} {Q : State → Prop} {cc : ByteArray} (hexec : p.tables.exec = Jvm.exec) (hb : c.code = cc) {own tx : String} {index q : Nat} (hown : s.vm.findClass own = some m.cls) (hZ : vk_R own index tx q s) (hdg : decode cc pc = .ok (.ldc_w index, 3))
    (k : W p l e R s m args below meth c H locs cells slots Q (F0 m (pc + 3) ls (.ref q :: rest))) : W p l e R s m args below meth c H locs cells slots Q (F0 m pc ls rest) := by
  intro T hT X
  obtain ⟨t, a1, b1⟩ := k T hT X
  exact ⟨t, X.ldcStringW hexec hown (text := tx) (a := q) hZ.1 hZ.2 (g := F0 m pc ls rest) rfl (by rw [hb]; exact hdg) t a1, b1⟩
theorem r_ldcwS {i idx : Nat} {tx : String} (hd : decode k.2.1 pc = .ok (.ldc_w idx, 3)) (hm : (i, k.1, idx, tx) ∈ sST) {x : Option α} (kk : AW ρ γ l k G0 (pc + 3) lv (.ref (γ.1 i) :: st) G x) : AW ρ γ l k G0 pc lv st G x :=
  AW_same (fun p e R s m args below meth c H locs ls cells slots Q C hP hV hl w => by
    obtain ⟨h0, h1⟩ := C.2.2.2.2.2.2.2.2.2.1.2.2.2.1 _ hm
    rw [List.map_cons, show cv (.ref (γ.1 i)) = .ref (γ.1 i - 1) from rv_pos (Nat.ne_of_gt h0)] at w
    exact va_ldcwS C.1 C.2.1 C.2.2.2.2.2.1 h1 hd w) kk
/-- a private method, on a receiver of a class below -/
theorem run_P {y : MethodName} {b : ByteArray} {L idx a d n c9 : Nat} {ret : Option FieldType} {β : Type} {ρ2 : β → EN} {x : Option β} (hT : TrM ρ2 γ l y (ws_ y b L ret) d (.ref a :: As) G x) (hd : decode k.2.1 pc = .ok (.invokevirtual idx, 3)) (h1 : Cond.methodLink k.1 idx y ∈ lw_all) (h2 : Cond.sameMethod y.cls y.cls y.name y.desc ∈ lw_all) (h3 : Cond.privateMethod y ∈ lw_mv) (h4 : Cond.instanceMethod y ∈ lw_all) (h5 : Cond.initialized y.cls ∈ lw_all) (h6 : Cond.code y b L ret ∈ lw_all)
    (hn : mOK y n) (hAs : As.length = n) (hc : hK G a = c9) (hcn : c9 ≠ 0 ∧ c9 < 37) (hdd : d + 1 ≤ k.2.2.2.2.2.2) (hL : L ≤ 45) (hst : stk = As.reverse ++ .ref a :: rest) (hw : (rest.map fun v => v.category).sum ≤ 8) : RunOK ρ2 γ l k pc 3 stk rest G x :=
  run_U_ (owner := y.cls) (x9 := y) hT hd hAs hc ⟨hcn.1, by omega⟩ hdd hL (fun p R s m args meth c mc ms C => by
    have hts := C.2.2.2.2.2.2.2.2.1
    obtain ⟨cn, ck, r1, hcn1, hck, hni, hf, hn1⟩ := Cond.sameMethod_found (hts _ h2)
    obtain ⟨mk, methM, hnamed, hmethM, hstM, habM⟩ := Cond.instanceMethod_spec (hts _ h4)
    obtain ⟨cC, kC, hfC, -⟩ := Cond.instantiable_spec (hts _ (cIn c9 (Nat.pos_of_ne_zero hcn.1) hcn.2))
    have hfound : s.methodFound? y.cls y.name y.desc = some mk := State.methodFound?_of_named hnamed ⟨hn.1, hn.2.1⟩
    have hcls : mk.cls = cn := Option.some.inj ((findClass_of_methodNamed hnamed).symm.trans hcn1)
    have hsel : selectMethod {} s.vm cC mk = .method mk := selectMethod_private hmethM (Cond.privateMethod_at (C.2.2.2.2.2.2.2.2.2.1.1 _ h3) mk methM hnamed hmethM)
    have hS : (Cond.selects (cN c9) y y).before args s = true := by
      simp only [Cond.before, Cond.holds, Cond.value, hfC, hfound, hnamed, hsel, hcls, hck]
      simp; exact hni
    have hW : ∀ w ∈ ws_ y b L ret, ∀ (a' : Array Value) (U : State), s.WarmedH U.vm → w.before a' U = true := pay_in hts (lw_meth h6)
    refine ⟨⟨rfl, rfl, (k_room C hdd hL).1, (k_room C hdd hL).2, hW, List.mem_cons_self⟩, hts _ h6, hts _ h5, ⟨hn.1, hn.2.1⟩, fun sig h => ?_, hts _ h1, hts _ h2, va_Decl.of (hts _ h4) (hts _ h6), hS, hts _ h4⟩
    have h9 := hn.2.2
    rw [h] at h9
    exact (Option.some.inj h9).symm) hst hw
end AWd
