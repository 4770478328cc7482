theorem mv_at {w : Cond} (i : Nat) (h : lw_tbl[i]? = some w) (g : mvw w = true) : w ∈ lw_mv := List.mem_filter.mpr ⟨List.mem_of_getElem? h, g⟩
theorem stO_cast : ∀ c ∈ stO, Cond.castable (cN c) "java/lang/Object" ∈ lw_mv := List.forall_mem_cons.mpr ⟨mv_at 3921 (by decide +kernel) rfl, List.forall_mem_cons.mpr ⟨mv_at 3922 (by decide +kernel) rfl, List.forall_mem_cons.mpr ⟨mv_at 3923 (by decide +kernel) rfl, List.forall_mem_cons.mpr ⟨mv_at 3924 (by decide +kernel) rfl, List.forall_mem_cons.mpr ⟨mv_at 3925 (by decide +kernel) rfl, List.forall_mem_cons.mpr ⟨mv_at 3926 (by decide +kernel) rfl, List.forall_mem_cons.mpr ⟨mv_at 3931 (by decide +kernel) rfl, List.forall_mem_cons.mpr ⟨mv_at 3927 (by decide +kernel) rfl, List.forall_mem_cons.mpr ⟨mv_at 3928 (by decide +kernel) rfl, List.forall_mem_cons.mpr ⟨mv_at 3929 (by decide +kernel) rfl, List.forall_mem_cons.mpr ⟨mv_at 3930 (by decide +kernel) rfl, List.forall_mem_cons.mpr ⟨mv_at 3942 (by decide +kernel) rfl, List.forall_mem_cons.mpr ⟨mv_at 3934 (by decide +kernel) rfl, List.forall_mem_cons.mpr ⟨mv_at 3935 (by decide +kernel) rfl, List.forall_mem_cons.mpr ⟨mv_at 3939 (by decide +kernel) rfl, List.forall_mem_cons.mpr ⟨mv_at 3936 (by decide +kernel) rfl, List.forall_mem_cons.mpr ⟨mv_at 3941 (by decide +kernel) rfl, List.forall_mem_cons.mpr ⟨mv_at 3954 (by decide +kernel) rfl, List.forall_mem_cons.mpr ⟨mv_at 3937 (by decide +kernel) rfl, List.forall_mem_cons.mpr ⟨mv_at 3938 (by decide +kernel) rfl, List.forall_mem_cons.mpr ⟨mv_at 3940 (by decide +kernel) rfl, List.forall_mem_cons.mpr ⟨mv_at 3944 (by decide +kernel) rfl, List.forall_mem_cons.mpr ⟨mv_at 3946 (by decide +kernel) rfl, List.forall_mem_cons.mpr ⟨mv_at 3947 (by decide +kernel) rfl, List.forall_mem_cons.mpr ⟨mv_at 3948 (by decide +kernel) rfl, List.forall_mem_cons.mpr ⟨mv_at 3953 (by decide +kernel) rfl, List.forall_mem_cons.mpr ⟨mv_at 3956 (by decide +kernel) rfl, List.forall_mem_cons.mpr ⟨mv_at 3959 (by decide +kernel) rfl, List.forall_mem_cons.mpr ⟨mv_at 3961 (by decide +kernel) rfl, List.forall_mem_cons.mpr ⟨mv_at 3962 (by decide +kernel) rfl, List.forall_mem_cons.mpr ⟨mv_at 3963 (by decide +kernel) rfl, List.forall_mem_cons.mpr ⟨mv_at 3964 (by decide +kernel) rfl, List.forall_mem_cons.mpr ⟨mv_at 3965 (by decide +kernel) rfl, List.forall_mem_cons.mpr ⟨mv_at 3967 (by decide +kernel) rfl, List.forall_mem_cons.mpr ⟨mv_at 3968 (by decide +kernel) rfl, List.forall_mem_cons.mpr ⟨mv_at 3969 (by decide +kernel) rfl, List.forall_mem_cons.mpr ⟨mv_at 3945 (by decide +kernel) rfl, List.forall_mem_cons.mpr ⟨mv_at 3950 (by decide +kernel) rfl, List.forall_mem_cons.mpr ⟨mv_at 3952 (by decide +kernel) rfl, List.forall_mem_cons.mpr ⟨mv_at 3951 (by decide +kernel) rfl, List.forall_mem_cons.mpr ⟨mv_at 3955 (by decide +kernel) rfl, fun _ h => absurd h List.not_mem_nil⟩⟩⟩⟩⟩⟩⟩⟩⟩⟩⟩⟩⟩⟩⟩⟩⟩⟩⟩⟩⟩⟩⟩⟩⟩⟩⟩⟩⟩⟩⟩⟩⟩⟩⟩⟩⟩⟩⟩⟩⟩
section AWh
variable {α : Type} {ρ : α → EN} {γ : GP} {l : Launch} {k : CK} {G0 G : AH} {pc pc' : Nat} {lv lv' : List (Nat × Value)} {st st' : List Value} {x : Option α}
theorem AW_step {G1 : AH} (dc ds : Nat) (hc : hS G1 = hS G + dc) (hs : hM G1 = hM G + ds)
    (h : ∀ (p : Program) (e : Env) (R : Room) (s : State) (m : MethodId) (args : Array Value) (below : List Frame) (meth : Method) (c : Code) (H : Heap) (locs : List Loc) (ls : Array Slot) (cells slots : Nat) (Q : State → Prop), Cx γ k p R s m args meth c → Rep γ s G H → va_S (Af γ) s.heap H locs → lv_has ls k.2.2.1 (lvc lv) → cells + dc ≤ R.cells → slots + ds ≤ R.slots →
      (∀ (H1 : Heap) (locs1 : List Loc), Rep γ s G1 H1 → va_S (Af γ) s.heap H1 locs1 → W p l e R s m args below meth c H1 locs1 (cells + dc) (slots + ds) Q (F0 m pc' ls (st'.map cv))) → W p l e R s m args below meth c H locs cells slots Q (F0 m pc ls (st.map cv)))
    (kk : AW ρ γ l k G0 pc' lv st' G1 x) : AW ρ γ l k G0 pc lv st G x := by
  intro r hr
  obtain ⟨⟨m1, m2⟩, w⟩ := kk r hr
  refine ⟨⟨by omega, by omega⟩, fun p e R s m args below meth c H locs ls C h1 h2 h3 h4 hP hV hl => ?_⟩
  have g1 := hP.1
  have g2 := hV.1
  have e1 : hS G1 - hS G0 = (hS G - hS G0) + dc := by omega
  have e2 : hM G1 - hM G0 = (hM G - hM G0) + ds := by omega
  refine h p e R s m args below meth c H locs ls _ _ _ C hP hV hl (by omega) (by omega) (fun H1 locs1 hP1 hV1 => ?_)
  have w1 := w p e R s m args below meth c H1 locs1 ls C h1 h2 h3 (by omega) hP1 hV1 hl
  rw [e1, e2] at w1
  exact w1
theorem AW_same (h : ∀ (p : Program) (e : Env) (R : Room) (s : State) (m : MethodId) (args : Array Value) (below : List Frame) (meth : Method) (c : Code) (H : Heap) (locs : List Loc) (ls : Array Slot) (cells slots : Nat) (Q : State → Prop), Cx γ k p R s m args meth c → Rep γ s G H → va_S (Af γ) s.heap H locs → lv_has ls k.2.2.1 (lvc lv) →
      W p l e R s m args below meth c H locs cells slots Q (F0 m pc' ls (st'.map cv)) → W p l e R s m args below meth c H locs cells slots Q (F0 m pc ls (st.map cv)))
    (kk : AW ρ γ l k G0 pc' lv st' G x) : AW ρ γ l k G0 pc lv st G x :=
  AW_step 0 0 rfl rfl (fun p e R s m args below meth c H locs ls cells slots Q C hP hV hl _ _ w => h p e R s m args below meth c H locs ls cells slots Q C hP hV hl (w H locs hP hV)) kk
theorem cFl_big {c : Nat} (h : 42 ≤ c) : cFl c = [] := by
  have h1 : cFls[c]? = none := List.getElem?_eq_none_iff.mpr (Nat.le_trans (by decide) h)
  unfold cFl
  rw [List.getD_eq_getElem?_getD, h1]
  rfl
/-- the field f is there to be read -/
abbrev okF (G : AH) (a f : Nat) : Prop := f ∈ cFl (hK G a)
theorem okF_spec {a f : Nat} (h : okF G a f) : hK G a ≠ 0 ∧ hK G a < 42 := by
  constructor
  · intro q
    have h2 : f ∈ cFl (hK G a) := h
    rw [q] at h2
    exact absurd h2 List.not_mem_nil
  · rcases Nat.lt_or_ge (hK G a) 42 with q | q
    · exact q
    · have h2 : f ∈ cFl (hK G a) := h
      rw [cFl_big q] at h2
      cases h2
/-- .. to be written -/
abbrev okW (γ : GP) (G : AH) (a f : Nat) : Prop := f ∈ cFl (hK G a) ∧ hK G a < 37 ∧ γ.2 < a
theorem Rep.ob {s : State} {H : Heap} (h : Rep γ s G H) {a : Nat} (h0 : hK G a ≠ 0) (h1 : hK G a < 100) : 0 < a ∧ ObOK γ s G H a (hK G a) := ⟨(h.2.2 a h0).1, (h.2.2 a h0).2.1 h1⟩
theorem Rep.ar {s : State} {H : Heap} (h : Rep γ s G H) {a : Nat} (h1 : 100 ≤ hK G a) : 0 < a ∧ ArOK s G H a (hK G a) := ⟨(h.2.2 a (by omega)).1, (h.2.2 a (by omega)).2.2 h1⟩
theorem fsame {args : Array Value} {s : State} {ref : String} {f : Nat} (hts : ∀ w ∈ lw_all, w.before args s = true) (h : ref = fO f ∨ Cond.sameField ref (fO f) (fN f) (fDs f) ∈ lw_all) : ∀ x, s.fieldFound? (fO f) (fN f) (fDs f) = some x → s.fieldFound? ref (fN f) (fDs f) = some x := by
  intro x hx
  rcases h with h | h
  · rw [h]; exact hx
  · exact u_same (hts _ h) x hx
theorem AW_getf {f a idx : Nat} {ref : String} (hd : decode k.2.1 pc = .ok (.getfield idx, 3)) (hq : Cond.fieldLink k.1 idx ref (fN f) (fDs f) ∈ lw_all) (hsm : ref = fO f ∨ Cond.sameField ref (fO f) (fN f) (fDs f) ∈ lw_all) {v : Value} (hv : cv v = fv G f a) (hok : okF G a f) (kk : AW ρ γ l k G0 (pc + 3) lv (v :: st) G x) : AW ρ γ l k G0 pc lv (.ref a :: st) G x := by
  refine AW_same (fun p e R s m args below meth c H locs ls cells slots Q C hP hV hl w => ?_) kk
  obtain ⟨h0, h1⟩ := okF_spec hok
  obtain ⟨ha, cell, g1, g2, g3, g4, g5, g6⟩ := hP.ob h0 (by omega)
  obtain ⟨cf, kc, i, fd, e1, e2, e3⟩ := g6 f hok
  rw [List.map_cons, show cv (.ref a) = .ref (a - 1) from rv_pos (by omega)]
  refine W.getf C.1 C.2.1 C.2.2.2.2.2.1 (C.2.2.2.2.2.2.2.2.1 _ hq) (fsame C.2.2.2.2.2.2.2.2.1 hsm _ e1) e2 g1 g3 (v := cv v) ?_ rfl rfl hd w
  rw [hv]; exact e3
def gI {β : Type} (G : AH) (a f : Nat) (K : Int32 → Option β) : Option β := if okF G a f then K (hI G f a) else none
def gR {β : Type} (G : AH) (a f : Nat) (K : Nat → Option β) : Option β := if okF G a f then K (hR G f a) else none
theorem r_getI {K : Int32 → Option α} {f a idx : Nat} {ref : String} (hd : decode k.2.1 pc = .ok (.getfield idx, 3)) (hq : Cond.fieldLink k.1 idx ref (fN f) (fDs f) ∈ lw_all) (hsm : ref = fO f ∨ Cond.sameField ref (fO f) (fN f) (fDs f) ∈ lw_all) (hr : fRf f = false) (kk : ∀ v : Int32, AW ρ γ l k G0 (pc + 3) lv (.int v :: st) G (K v)) : AW ρ γ l k G0 pc lv (.ref a :: st) G (gI G a f K) :=
  AW_chk (fun hc => AW_getf hd hq hsm (v := .int (hI G f a)) (by unfold fv; rw [hr]; rfl) hc (kk _))
theorem r_getR {K : Nat → Option α} {f a idx : Nat} {ref : String} (hd : decode k.2.1 pc = .ok (.getfield idx, 3)) (hq : Cond.fieldLink k.1 idx ref (fN f) (fDs f) ∈ lw_all) (hsm : ref = fO f ∨ Cond.sameField ref (fO f) (fN f) (fDs f) ∈ lw_all) (hr : fRf f = true) (kk : ∀ v : Nat, AW ρ γ l k G0 (pc + 3) lv (.ref v :: st) G (K v)) : AW ρ γ l k G0 pc lv (.ref a :: st) G (gR G a f K) :=
  AW_chk (fun hc => AW_getf hd hq hsm (v := .ref (hR G f a)) (by unfold fv; rw [hr]; rfl) hc (kk _))
/-- a field read by a nest mate -/
theorem AW_getN {f a idx : Nat} {host : String} (hd : decode k.2.1 pc = .ok (.getfield idx, 3)) (hq : Cond.fieldLinkNest k.1 idx (fO f) (fN f) (fDs f) host ∈ lw_mv) {v : Value} (hv : cv v = fv G f a) (hok : okF G a f) (kk : AW ρ γ l k G0 (pc + 3) lv (v :: st) G x) : AW ρ γ l k G0 pc lv (.ref a :: st) G x := by
  refine AW_same (fun p e R s m args below meth c H locs ls cells slots Q C hP hV hl w => ?_) kk
  obtain ⟨h0, h1⟩ := okF_spec hok
  obtain ⟨ha, cell, g1, g2, g3, g4, g5, g6⟩ := hP.ob h0 (by omega)
  obtain ⟨cf, kc, i, fd, e1, e2, e3⟩ := g6 f hok
  rw [List.map_cons, show cv (.ref a) = .ref (a - 1) from rv_pos (by omega)]
  refine va_Wgetf C.1 C.2.1 C.2.2.2.2.2.1 ((C.2.2.2.2.2.2.2.2.2.1.1 _ hq).use rfl) e1 e2 g1 g3 (v := cv v) ?_ rfl rfl hd w
  rw [hv]; exact e3
theorem r_getIN {K : Int32 → Option α} {f a idx : Nat} {host : String} (hd : decode k.2.1 pc = .ok (.getfield idx, 3)) (hq : Cond.fieldLinkNest k.1 idx (fO f) (fN f) (fDs f) host ∈ lw_mv) (hr : fRf f = false) (kk : ∀ v : Int32, AW ρ γ l k G0 (pc + 3) lv (.int v :: st) G (K v)) : AW ρ γ l k G0 pc lv (.ref a :: st) G (gI G a f K) :=
  AW_chk (fun hc => AW_getN hd hq (v := .int (hI G f a)) (by unfold fv; rw [hr]; rfl) hc (kk _))
/-- G1 is G with the field f of a set to what is v on the machine -/
def Put1 (G G1 : AH) (f a : Nat) (v : Value) : Prop := hS G1 = hS G ∧ hK G1 = hK G ∧ hL G1 = hL G ∧ hA G1 = hA G ∧ hQ G1 = hQ G ∧ hJ G1 = hJ G ∧ hD G1 = hD G ∧ fv G1 f a = v ∧ ∀ g b : Nat, ¬ (g = f ∧ b = a) → fv G1 g b = fv G g b
theorem put_I {f a : Nat} {v : Int32} (hr : fRf f = false) : Put1 G (sI G f a v) f a (.int v) := by
  refine ⟨rfl, rfl, rfl, rfl, rfl, rfl, rfl, ?_, fun g b h => ?_⟩
  · unfold fv
    rw [hr]
    show Value.int (u2 (hI G) f a v f a) = _
    simp [u2]
  · unfold fv
    show (if fRf g = true then rv (hR G g b) else Value.int (u2 (hI G) f a v g b)) = _
    simp only [u2, if_neg h]
theorem put_R {f a : Nat} {v : Nat} (hr : fRf f = true) : Put1 G (sR G f a v) f a (rv v) := by
  refine ⟨rfl, rfl, rfl, rfl, rfl, rfl, rfl, ?_, fun g b h => ?_⟩
  · unfold fv
    rw [hr]
    show rv (u2 (hR G) f a v f a) = _
    simp [u2]
  · unfold fv
    show (if fRf g = true then rv (u2 (hR G) f a v g b) else Value.int (hI G g b)) = _
    simp only [u2, if_neg h]
theorem av_eq {G G1 : AH} (h : hA G1 = hA G ∧ hQ G1 = hQ G ∧ hJ G1 = hJ G ∧ hD G1 = hD G) (kd a i : Nat) : av G1 kd a i = av G kd a i := by
  obtain ⟨h1, h2, h3, h4⟩ := h
  unfold av
  rw [h1, h2, h3, h4]
theorem lay_or {C : String} {f : Nat} {args : Array Value} {s : State} (hx : (fLay C f).before args s = true) : (Cond.lays C (fO f) (fN f) (fDs f)).before args s = true ∨ (Cond.laysFinal C (fO f) (fN f) (fDs f)).before args s = true := by
  unfold fLay at hx
  split at hx
  · exact Or.inr hx
  · exact Or.inl hx
theorem Rep.put {s : State} {G1 : AH} {H H1 : Heap} {args : Array Value} (h : Rep γ s G H) (hts : ∀ w ∈ lw_all, w.before args s = true) {f a : Nat} {v : Value} (hok : okW γ G a f) (hp : Put1 G G1 f a v) {cell : Cell} (hc : H[a - 1]? = some cell)
    {cf i : Nat} {kc : Class} {fd : Field} (hf : s.fieldFound? (fO f) (fN f) (fDs f) = some (cf, kc, i, fd)) (e1 : H1[a - 1]? = some (cell.setSlot fd.slot v)) (e2 : H1.size = H.size) (e3 : ∀ q, q ≠ a - 1 → H1[q]? = H[q]?) : Rep γ s G1 H1 := by
  obtain ⟨p1, p2, p3, p4, p5, p6, p7, p8, p9⟩ := hp
  obtain ⟨hm, hlt, hb⟩ := hok
  have hpos : 0 < hK G a := Nat.pos_of_ne_zero (okF_spec (show okF G a f from hm)).1
  refine ⟨by rw [e2, p1]; exact h.1, by rw [e2]; exact h.2.1, fun b hb0 => ?_⟩
  rw [p2] at hb0 ⊢
  obtain ⟨r1, r2, r3⟩ := h.2.2 b hb0
  refine ⟨r1, fun hq => ?_, fun hq => ?_⟩
  · obtain ⟨cb, g1, g2, g3, g4, g5, g6⟩ := r2 hq
    by_cases hba : b = a
    · subst hba
      cases hc.symm.trans g1
      refine ⟨_, e1, g2, g3, g4, g5, fun g hg => ?_⟩
      obtain ⟨cf', kc', i', fd', t1, t2, t3⟩ := g6 g hg
      refine ⟨cf', kc', i', fd', t1, t2, ?_⟩
      by_cases hgf : g = f
      · subst hgf
        cases hf.symm.trans t1
        rw [p8]
        have hlt2 : fd.slot < cell.slots.size := (Array.getElem?_eq_some_iff.mp t3).1
        show (cell.slots.setIfInBounds fd.slot v)[fd.slot]? = some v
        simp [hlt2]
      · rw [p9 g b (fun q => hgf q.1), ← t3]
        have hne : fd'.slot ≠ fd.slot := by
          refine u_apart (lay_or (hts _ (cLay _ hpos hlt g hg))) (lay_or (hts _ (cLay _ hpos hlt f hm))) t1 hf ?_
          rw [(State.fieldFound?_type t1 (fTy_ok g (cFl_lt _ (by omega) g hg))).1, (State.fieldFound?_type hf (fTy_ok f (cFl_lt _ (by omega) f hm))).1]
          exact cFl_nm _ (by omega) g hg f hm hgf
        show (cell.slots.setIfInBounds fd.slot v)[fd'.slot]? = _
        simp [Ne.symm hne]
    · refine ⟨cb, by rw [e3 _ (by have := (h.2.2 a (Nat.pos_iff_ne_zero.mp hpos)).1; omega)]; exact g1, g2, g3, g4, g5, fun g hg => ?_⟩
      obtain ⟨cf', kc', i', fd', t1, t2, t3⟩ := g6 g hg
      exact ⟨cf', kc', i', fd', t1, t2, by rw [p9 g b (fun q => hba q.2)]; exact t3⟩
  · obtain ⟨cb, g1, g2, g3, g4, g5, g6, g7⟩ := r3 hq
    have hba : b ≠ a := fun q => by rw [q] at hq; omega
    refine ⟨cb, by rw [e3 _ (by have := (h.2.2 a (Nat.pos_iff_ne_zero.mp hpos)).1; omega)]; exact g1, g2, g3, by rw [p3]; exact g4, fun i hi => ?_, g6, g7⟩
    rw [p3] at hi
    rw [av_eq ⟨p4, p5, p6, p7⟩]
    exact g5 i hi
theorem AW_putf {G1 : AH} {f a idx : Nat} {ref : String} (hd : decode k.2.1 pc = .ok (.putfield idx, 3)) (hq : Cond.fieldLink k.1 idx ref (fN f) (fDs f) ∈ lw_all) (hsm : ref = fO f ∨ Cond.sameField ref (fO f) (fN f) (fDs f) ∈ lw_all) (hfin : fFin f = false ∨ (k.2.2.2.2.1 = "<init>" ∧ fO f = k.1)) {v : Value} (hp : Put1 G G1 f a (cv v)) (hM1 : hM G1 = hM G) (hok : okW γ G a f) (hn : narrow (fTy f) (cv v) = cv v) (hfit : fits (fTy f) (cv v) = true) (kk : AW ρ γ l k G0 (pc + 3) lv st G1 x) : AW ρ γ l k G0 pc lv (v :: .ref a :: st) G x := by
  refine AW_step 0 0 hp.1 hM1 (fun p e R s m args below meth c H locs ls cells slots Q C hP hV hl _ _ w => ?_) kk
  obtain ⟨h0, h1⟩ := okF_spec (show okF G a f from hok.1)
  obtain ⟨ha, cell, g1, g2, g3, g4, g5, g6⟩ := hP.ob h0 (by omega)
  obtain ⟨cf, kc, i, fd, e1, e2, e3⟩ := g6 f hok.1
  have hts := C.2.2.2.2.2.2.2.2.1
  have hcv : cell.vm = .none := (g5 hok.2.2).1
  obtain ⟨cC, kC, hfc, hk, hkind, -⟩ := Cond.instantiable_spec (hts _ (cIn _ (Nat.pos_of_ne_zero h0) hok.2.1))
  have hcC : cell.cls = cC := Option.some.inj (g2.symm.trans hfc)
  have hl9 := hts _ (cLay _ (Nat.pos_of_ne_zero h0) hok.2.1 f hok.1)
  have hd9 := fTy_ok f (cFl_lt _ (by omega) f hok.1)
  have hV1 : ∀ H1 : Heap, H1.size = H.size → (∀ q, q ≠ a - 1 → H1[q]? = H[q]?) → va_S (Af γ) s.heap H1 (locs ++ [⟨a - 1, fd.slot⟩]) := fun H1 z o => hV.put z o (by have := hok.2.2; show γ.2 ≤ a - 1; omega)
  have hlt2 : fd.slot < cell.slots.size := (Array.getElem?_eq_some_iff.mp e3).1
  rw [List.map_cons, List.map_cons, show cv (.ref a) = .ref (a - 1) from rv_pos (by omega)]
  unfold fLay at hl9
  split at hl9
  · rename_i hff
    obtain ⟨hin, hdecl⟩ : k.2.2.2.2.1 = "<init>" ∧ fO f = k.1 := by
      rcases hfin with q | q
      · rw [hff] at q; cases q
      · exact q
    have hcf : m.cls = cf := by
      obtain ⟨_, _, c', _, _, _, -, -, hf', -, -, -, hown2, -⟩ := Cond.laysFinal_spec hl9
      have e1 : c' = cf := by have := e1.symm.trans hf'; simp at this; exact this.1.symm
      rw [hdecl] at hown2
      rw [← e1]; exact Option.some.inj (C.2.2.2.2.2.1.symm.trans hown2)
    have h6 := u_fits hfc hk hkind (Or.inr hl9) e1 hd9 hn hfit
    refine W.putFinK C.1 C.2.1 C.2.2.2.2.2.1 (hts _ hq) (fsame hts hsm _ e1) e2 hcf (C.2.2.2.2.2.2.1.trans hin) (by rw [hcC]; exact h6) g1 hcv hlt2 rfl rfl hd fun H1 z1 z2 z3 => ?_
    exact w H1 _ (hP.put hts hok hp g1 e1 z1 z2 z3) (hV1 H1 z2 z3)
  · have h6 := u_store hfc hk hkind hl9 e1 hd9 hn hfit
    refine W.putK C.1 C.2.1 (f := fd) ⟨C.2.2.2.2.2.1, hts _ hq, ⟨_, _, _, fsame hts hsm _ e1⟩, e2⟩ (by rw [hcC]; exact h6) g1 hcv hlt2 rfl rfl hd fun H1 z1 z2 z3 => ?_
    exact w H1 _ (hP.put hts hok hp g1 e1 z1 z2 z3) (hV1 H1 z2 z3)
/-- a store of an int field; of a narrow one (boolean, byte, char) the value must fit -/
def pI {β : Type} (γ : GP) (G : AH) (a f : Nat) (v : Int32) (K : AH → Option β) : Option β := if okW γ G a f ∧ narrow (fTy f) (.int v) = .int v ∧ fits (fTy f) (.int v) = true then K (sI G f a v) else none
def pR {β : Type} (γ : GP) (G : AH) (a f : Nat) (v : Nat) (K : AH → Option β) : Option β := if okW γ G a f then K (sR G f a v) else none
theorem r_putI {K : AH → Option α} {f a idx : Nat} {ref : String} {v : Int32} (hd : decode k.2.1 pc = .ok (.putfield idx, 3)) (hq : Cond.fieldLink k.1 idx ref (fN f) (fDs f) ∈ lw_all) (hsm : ref = fO f ∨ Cond.sameField ref (fO f) (fN f) (fDs f) ∈ lw_all) (hfin : fFin f = false ∨ (k.2.2.2.2.1 = "<init>" ∧ fO f = k.1)) (hr : fRf f = false) (kk : ∀ G1, AW ρ γ l k G0 (pc + 3) lv st G1 (K G1)) : AW ρ γ l k G0 pc lv (.int v :: .ref a :: st) G (pI γ G a f v K) :=
  AW_chk (fun hc => AW_putf hd hq hsm hfin (v := .int v) (put_I hr) rfl hc.1 hc.2.1 hc.2.2 (kk _))
theorem nar_rv {ty : FieldType} (h : ty.isReference = true) (w : Nat) : narrow ty (rv w) = rv w ∧ fits ty (rv w) = true := by
  cases ty <;> cases w <;> first | (cases h; done) | exact ⟨rfl, rfl⟩
theorem r_putR {K : AH → Option α} {f a idx : Nat} {ref : String} {v : Nat} (hd : decode k.2.1 pc = .ok (.putfield idx, 3)) (hq : Cond.fieldLink k.1 idx ref (fN f) (fDs f) ∈ lw_all) (hsm : ref = fO f ∨ Cond.sameField ref (fO f) (fN f) (fDs f) ∈ lw_all) (hfin : fFin f = false ∨ (k.2.2.2.2.1 = "<init>" ∧ fO f = k.1)) (hr : fRf f = true) (kk : ∀ G1, AW ρ γ l k G0 (pc + 3) lv st G1 (K G1)) : AW ρ γ l k G0 pc lv (.ref v :: .ref a :: st) G (pR γ G a f v K) :=
  AW_chk (fun hc => AW_putf hd hq hsm hfin (v := .ref v) (put_R hr) rfl hc (nar_rv hr v).1 (nar_rv hr v).2 (kk _))
theorem dflt_ok : ∀ f, f < 131 → defaultValue (fTy f) = if fRf f then .null else .int 0 := by decide +kernel
/-- a cell pushed behind the others, with what G1 says of it -/
theorem Rep.push {s : State} {G1 : AH} {H H1 : Heap} (h : Rep γ s G H) (hs : hS G1 = hS G + 1) (hn : ∀ b : Nat, b ≠ hS G → hK G1 b = hK G b ∧ hL G1 b = hL G b ∧ (∀ g, fv G1 g b = fv G g b) ∧ ∀ kd i, av G1 kd b i = av G kd b i)
    (hz : H1.size = H.size + 1) (ho : ∀ q, q < H.size → H1[q]? = H[q]?) (hnew : (hK G1 (hS G) < 100 → ObOK γ s G1 H1 (hS G) (hK G1 (hS G))) ∧ (100 ≤ hK G1 (hS G) → ArOK s G1 H1 (hS G) (hK G1 (hS G)))) : Rep γ s G1 H1 := by
  have hH := h.1
  refine ⟨by rw [hz, hs, ← hH], by rw [hz]; exact Nat.le_succ_of_le h.2.1, fun b hb => ?_⟩
  by_cases hbn : b = hS G
  · subst hbn
    exact ⟨by omega, hnew.1, hnew.2⟩
  · obtain ⟨n1, n2, n3, n4⟩ := hn b hbn
    rw [n1] at hb ⊢
    obtain ⟨r0, r1, r2⟩ := h.2.2 b hb
    have hlt := (h.lt hb).1
    refine ⟨r0, fun q => ?_, fun q => ?_⟩
    · obtain ⟨cell, g1, g2, g3, g4, g5, g6⟩ := r1 q
      refine ⟨cell, by rw [ho _ hlt]; exact g1, g2, g3, g4, g5, fun f hf => ?_⟩
      obtain ⟨cf, kc, i, fd, t1, t2, t3⟩ := g6 f hf
      exact ⟨cf, kc, i, fd, t1, t2, by rw [n3]; exact t3⟩
    · obtain ⟨cell, g1, g2, g3, g4, g5, g6⟩ := r2 q
      exact ⟨cell, by rw [ho _ hlt]; exact g1, g2, g3, by rw [n2]; exact g4, fun i hi => by rw [n2] at hi; rw [n4]; exact g5 i hi, g6⟩
theorem nO_K {c n : Nat} : hK (nO G c n) (hS G) = c := by
  show u1 (hK G) (hS G) c (hS G) = c
  simp [u1]
theorem nO_ne {c n b : Nat} (h : b ≠ hS G) : hK (nO G c n) b = hK G b ∧ hL (nO G c n) b = hL G b ∧ (∀ g, fv (nO G c n) g b = fv G g b) ∧ ∀ kd i, av (nO G c n) kd b i = av G kd b i := by
  refine ⟨?_, rfl, fun g => ?_, fun kd i => av_eq ⟨rfl, rfl, rfl, rfl⟩ kd b i⟩
  · show u1 (hK G) (hS G) c b = _
    simp [u1, h]
  · unfold fv
    show (if fRf g = true then rv (uc (hR G) (hS G) 0 g b) else Value.int (uc (hI G) (hS G) 0 g b)) = _
    simp [uc, h]
def mO {β : Type} (G : AH) (c : Nat) (K : Nat → AH → Option β) : Option β := K (hS G) (nO G c (cInst c))
theorem r_new {K : Nat → AH → Option α} {idx c : Nat} (hd : decode k.2.1 pc = .ok (.new idx, 3)) (hq : Cond.classLink k.1 idx (cN c) ∈ lw_all) (h0 : 0 < c) (h1 : c < 37) (kk : ∀ (q : Nat) (G1 : AH), AW ρ γ l k G0 (pc + 3) lv (.ref q :: st) G1 (K q G1)) : AW ρ γ l k G0 pc lv st G (mO G c K) := by
  refine AW_step (G1 := nO G c (cInst c)) 1 (cInst c) rfl rfl (fun p e R s m args below meth c9 H locs ls cells slots Q C hP hV hl hc hs w => ?_) (kk (hS G) (nO G c (cInst c)))
  have hts := C.2.2.2.2.2.2.2.2.1
  obtain ⟨cC, kC, hfc, hk, hkind, hsz⟩ := Cond.instantiable_spec (hts _ (cIn c h0 h1))
  have hH := hP.1
  have e0 : cv (.ref (hS G)) = .ref H.size := by rw [← hH]; rfl
  refine W.newcK C.1 C.2.1 C.2.2.2.2.2.1 (hts _ hq) (hts _ (cIn c h0 h1)) (hts _ (cIz c h0 h1)) rfl hd hc hs hfc rfl fun H1 kC2 hkC z1 z2 z3 => ?_
  cases hk.symm.trans hkC
  have w1 := w H1 locs (hP.push rfl (fun b hb => nO_ne hb) z2 z3 ⟨fun _ => ?_, fun q => by rw [nO_K] at q; omega⟩) ⟨Nat.le_trans hV.1 (by omega), fun x h1 h2 => (z3 x (Nat.lt_of_lt_of_le h1 hV.1)).trans (hV.2.1 x h1 h2), hV.2.2⟩
  · rw [List.map_cons, e0] at w1
    exact w1
  · rw [nO_K]
    refine ⟨_, by rw [← hH]; exact z1, hfc, (fun h => by cases h), rfl, fun _ => ⟨rfl, rfl, rfl⟩, fun f hf => ?_⟩
    have hl9 := hts _ (cLay c h0 h1 f hf)
    obtain ⟨i, cf, kf, fi, fd, hi, he⟩ := u_found (lay_or hl9)
    obtain ⟨g1, g2, g3⟩ := u_facts hfc hk (lay_or hl9) hi
    refine ⟨cf, kf, fi, fd, hi, g1, ?_⟩
    rw [(State.fieldFound?_type hi (fTy_ok f (cFl_lt c (by omega) f hf))).2] at g3
    have g4 := k2_blank (cC := cC) g3
    rw [g4, dflt_ok f (cFl_lt c (by omega) f hf)]
    unfold fv
    show some (if fRf f = true then Value.null else Value.int 0) = some (if fRf f = true then rv (uc (hR G) (hS G) 0 f (hS G)) else Value.int (uc (hI G) (hS G) 0 f (hS G)))
    simp [uc]
    rfl
/-! arrays -/
abbrev okX (G : AH) (a kd : Nat) (i : Int32) : Prop := hK G a = kd ∧ ¬ (i < 0 ∨ hL G a ≤ i.toNatClampNeg)
theorem Rep.elem {s : State} {H : Heap} (h : Rep γ s G H) {a kd : Nat} {i : Int32} (hk : 100 ≤ kd) (hx : okX G a kd i) : 0 < a ∧ ∃ cell : Cell, H[a - 1]? = some cell ∧ s.isArrayOf cell (aTy kd) ∧ cell.vm ≠ .unknown ∧ cell.slots.size = hL G a ∧ ¬ (i < 0 ∨ cell.slots.size ≤ i.toNatClampNeg) ∧ cell.slots[i.toNatClampNeg]? = some (av G kd a i.toNatClampNeg) := by
  obtain ⟨h1, h2⟩ := hx
  obtain ⟨ha, cell, g1, g2, g3, g4, g5, -⟩ := h.ar (a := a) (by omega)
  rw [h1] at g2 g5
  exact ⟨ha, cell, g1, g2, g3, g4, by rw [g4]; exact h2, (g5 _ (by omega)).1⟩
def gA {β : Type} (G : AH) (kd a : Nat) (i : Int32) (K : Int32 → Option β) : Option β := if okX G a kd i then K (hA G a i.toNatClampNeg) else none
def gQ {β : Type} (G : AH) (kd a : Nat) (i : Int32) (K : Nat → Option β) : Option β := if okX G a kd i then K (hQ G a i.toNatClampNeg) else none
def gJ {β : Type} (G : AH) (a : Nat) (i : Int32) (K : Int64 → Option β) : Option β := if okX G a 104 i then K (hJ G a i.toNatClampNeg) else none
def gD {β : Type} (G : AH) (a : Nat) (i : Int32) (K : UInt64 → Option β) : Option β := if okX G a 105 i then K (hD G a i.toNatClampNeg) else none
theorem r_iald {K : Int32 → Option α} {a : Nat} {i : Int32} (hd : decode k.2.1 pc = .ok (.iaload, 1)) (kk : ∀ v : Int32, AW ρ γ l k G0 (pc + 1) lv (.int v :: st) G (K v)) : AW ρ γ l k G0 pc lv (.int i :: .ref a :: st) G (gA G 101 a i K) := by
  refine AW_chk (fun hx => AW_same (fun p e R s m args below meth c H locs ls cells slots Q C hP hV hl w => ?_) (kk _))
  obtain ⟨ha, cell, g1, g2, g3, g4, g5, g6⟩ := hP.elem (by decide) hx
  rw [List.map_cons, List.map_cons, show cv (.ref a) = .ref (a - 1) from rv_pos (by omega)]
  exact W.iald C.1 C.2.1 g1 g2 g3 g5 (v := cv (.int (hA G a i.toNatClampNeg))) g6 rfl rfl hd w
theorem r_bald {K : Int32 → Option α} {a : Nat} {i : Int32} (hd : decode k.2.1 pc = .ok (.baload, 1)) (kk : ∀ v : Int32, AW ρ γ l k G0 (pc + 1) lv (.int v :: st) G (K v)) : AW ρ γ l k G0 pc lv (.int i :: .ref a :: st) G (gA G 102 a i K) := by
  refine AW_chk (fun hx => AW_same (fun p e R s m args below meth c H locs ls cells slots Q C hP hV hl w => ?_) (kk _))
  obtain ⟨ha, cell, g1, g2, g3, g4, g5, g6⟩ := hP.elem (by decide) hx
  rw [List.map_cons, List.map_cons, show cv (.ref a) = .ref (a - 1) from rv_pos (by omega)]
  exact W.bald C.1 C.2.1 g1 g2 g3 g5 (v := cv (.int (hA G a i.toNatClampNeg))) g6 rfl rfl hd w
theorem r_cald {K : Int32 → Option α} {a : Nat} {i : Int32} (hd : decode k.2.1 pc = .ok (.caload, 1)) (kk : ∀ v : Int32, AW ρ γ l k G0 (pc + 1) lv (.int v :: st) G (K v)) : AW ρ γ l k G0 pc lv (.int i :: .ref a :: st) G (gA G 103 a i K) := by
  refine AW_chk (fun hx => AW_same (fun p e R s m args below meth c H locs ls cells slots Q C hP hV hl w => ?_) (kk _))
  obtain ⟨ha, cell, g1, g2, g3, g4, g5, g6⟩ := hP.elem (by decide) hx
  rw [List.map_cons, List.map_cons, show cv (.ref a) = .ref (a - 1) from rv_pos (by omega)]
  exact W.cald C.1 C.2.1 g1 g2 g3 g5 (v := cv (.int (hA G a i.toNatClampNeg))) g6 rfl rfl hd w
theorem r_lald {K : Int64 → Option α} {a : Nat} {i : Int32} (hd : decode k.2.1 pc = .ok (.laload, 1)) (kk : ∀ v : Int64, AW ρ γ l k G0 (pc + 1) lv (.long v :: st) G (K v)) : AW ρ γ l k G0 pc lv (.int i :: .ref a :: st) G (gJ G a i K) := by
  refine AW_chk (fun hx => AW_same (fun p e R s m args below meth c H locs ls cells slots Q C hP hV hl w => ?_) (kk _))
  obtain ⟨ha, cell, g1, g2, g3, g4, g5, g6⟩ := hP.elem (by decide) hx
  rw [List.map_cons, List.map_cons, show cv (.ref a) = .ref (a - 1) from rv_pos (by omega)]
  exact W.lald C.1 C.2.1 g1 g2 g3 g5 (v := cv (.long (hJ G a i.toNatClampNeg))) g6 rfl rfl hd w
theorem r_aald {K : Nat → Option α} {a : Nat} {i : Int32} (hd : decode k.2.1 pc = .ok (.aaload, 1)) (kk : ∀ v : Nat, AW ρ γ l k G0 (pc + 1) lv (.ref v :: st) G (K v)) : AW ρ γ l k G0 pc lv (.int i :: .ref a :: st) G (gQ G 106 a i K) := by
  refine AW_chk (fun hx => AW_same (fun p e R s m args below meth c H locs ls cells slots Q C hP hV hl w => ?_) (kk _))
  obtain ⟨ha, cell, g1, g2, g3, g4, g5, g6⟩ := hP.elem (by decide) hx
  rw [List.map_cons, List.map_cons, show cv (.ref a) = .ref (a - 1) from rv_pos (by omega)]
  exact W.aald C.1 C.2.1 g1 g2 rfl g3 g5 (v := cv (.ref (hQ G a i.toNatClampNeg))) g6 rfl rfl hd w
theorem r_aald7 {K : Nat → Option α} {a : Nat} {i : Int32} (hd : decode k.2.1 pc = .ok (.aaload, 1)) (kk : ∀ v : Nat, AW ρ γ l k G0 (pc + 1) lv (.ref v :: st) G (K v)) : AW ρ γ l k G0 pc lv (.int i :: .ref a :: st) G (gQ G 107 a i K) := by
  refine AW_chk (fun hx => AW_same (fun p e R s m args below meth c H locs ls cells slots Q C hP hV hl w => ?_) (kk _))
  obtain ⟨ha, cell, g1, g2, g3, g4, g5, g6⟩ := hP.elem (by decide) hx
  rw [List.map_cons, List.map_cons, show cv (.ref a) = .ref (a - 1) from rv_pos (by omega)]
  exact W.aald C.1 C.2.1 g1 g2 rfl g3 g5 (v := cv (.ref (hQ G a i.toNatClampNeg))) g6 rfl rfl hd w
/-- G1 is G with the element i of the array a set to what is v on the machine -/
def PutA (G G1 : AH) (kd a i : Nat) (v : Value) : Prop := hS G1 = hS G ∧ hK G1 = hK G ∧ hL G1 = hL G ∧ hI G1 = hI G ∧ hR G1 = hR G ∧ av G1 kd a i = v ∧ ∀ kd' b j : Nat, ¬ (b = a ∧ j = i) → av G1 kd' b j = av G kd' b j
theorem Rep.putA {s : State} {G1 : AH} {H H1 : Heap} (h : Rep γ s G H) {a kd i : Nat} {v : Value} (hkd : 100 ≤ kd) (hk : hK G a = kd) (hfv : fits (aTy kd) v = true) (hp : PutA G G1 kd a i v) {cell : Cell} (hc : H[a - 1]? = some cell) (e1 : H1[a - 1]? = some (cell.setSlot i v)) (e2 : H1.size = H.size) (e3 : ∀ q, q ≠ a - 1 → H1[q]? = H[q]?) : Rep γ s G1 H1 := by
  obtain ⟨p1, p2, p3, p4, p5, p6, p7⟩ := hp
  have ha := (h.ar (a := a) (by omega)).1
  refine ⟨by rw [e2, p1]; exact h.1, by rw [e2]; exact h.2.1, fun b hb0 => ?_⟩
  rw [p2] at hb0 ⊢
  obtain ⟨r1, r2, r3⟩ := h.2.2 b hb0
  refine ⟨r1, fun hq => ?_, fun hq => ?_⟩
  · obtain ⟨cb, g1, g2, g3, g4, g5, g6⟩ := r2 hq
    have hba : b ≠ a := fun q => by rw [q] at hq; omega
    refine ⟨cb, by rw [e3 _ (by omega)]; exact g1, g2, g3, g4, g5, fun g hg => ?_⟩
    obtain ⟨cf', kc', i', fd', t1, t2, t3⟩ := g6 g hg
    refine ⟨cf', kc', i', fd', t1, t2, ?_⟩
    rw [t3]
    unfold fv
    rw [p4, p5]
  · obtain ⟨cb, g1, g2, g3, g4, g5, g6, g7⟩ := r3 hq
    by_cases hba : b = a
    · subst hba
      cases hc.symm.trans g1
      refine ⟨_, e1, g2, g3, ?_, fun j hj => ?_, g6, g7⟩
      · rw [p3, ← g4]
        show (cell.slots.setIfInBounds i v).size = _
        simp
      · rw [p3] at hj
        show (cell.slots.setIfInBounds i v)[j]? = some (av G1 (hK G b) b j) ∧ fits (aTy (hK G b)) (av G1 (hK G b) b j) = true
        by_cases hji : j = i
        · subst hji
          rw [← hk] at p6
          rw [p6]
          have : j < cell.slots.size := by rw [g4]; exact hj
          refine ⟨by simp [this], ?_⟩
          rw [hk]
          exact hfv
        · rw [p7 _ _ _ (fun q => hji q.2)]
          refine ⟨?_, (g5 j hj).2⟩
          rw [← (g5 j hj).1]
          simp [Ne.symm hji]
    · refine ⟨cb, by rw [e3 _ (by omega)]; exact g1, g2, g3, by rw [p3]; exact g4, fun j hj => ?_, g6, g7⟩
      rw [p3] at hj
      rw [p7 _ _ _ (fun q => hba q.1)]
      exact g5 j hj
def vN (ty : FieldType) (v : Int32) : Int32 := match narrow ty (.int v) with
  | .int w => w
  | _ => 0
theorem vN_fit (kd : Nat) (h : kd = 101 ∨ kd = 102 ∨ kd = 103) (v : Int32) : fits (aTy kd) (.int (vN (aTy kd) v)) = true := by
  rcases h with h | h | h
  · subst h; rfl
  · subst h; exact pk_fb v
  · subst h
    have e : vN .char v = (v.toUInt32 % 65536).toInt32 := by
      have h9 := pk_nc v
      show v.toUInt32.toUInt16.toUInt32.toInt32 = _
      congr 1
    show fits .char (.int (vN .char v)) = true
    rw [e]
    exact pk_fc v
abbrev okXW (γ : GP) (G : AH) (a kd : Nat) (i : Int32) : Prop := okX G a kd i ∧ γ.2 < a
def pA {β : Type} (γ : GP) (G : AH) (kd a : Nat) (i : Int32) (v : Int32) (K : AH → Option β) : Option β := if okXW γ G a kd i then K (sA G a i.toNatClampNeg (vN (aTy kd) v)) else none
def pQ {β : Type} (γ : GP) (G : AH) (a : Nat) (i : Int32) (v : Nat) (K : AH → Option β) : Option β := if okXW γ G a 106 i ∧ hK G v ∈ stO then K (sQ G a i.toNatClampNeg v) else none
def pJ {β : Type} (γ : GP) (G : AH) (a : Nat) (i : Int32) (v : Int64) (K : AH → Option β) : Option β := if okXW γ G a 104 i then K (sJ G a i.toNatClampNeg v) else none
def pD {β : Type} (γ : GP) (G : AH) (a : Nat) (i : Int32) (v : UInt64) (K : AH → Option β) : Option β := if okXW γ G a 105 i then K (sD G a i.toNatClampNeg v) else none
theorem putA_A {kd a i : Nat} {v : Int32} (hk : kd ≠ 104 ∧ kd ≠ 105 ∧ kd ≠ 106 ∧ kd ≠ 107) : PutA G (sA G a i v) kd a i (.int v) := by
  refine ⟨rfl, rfl, rfl, rfl, rfl, ?_, fun kd2 b j h => ?_⟩
  · unfold av
    show (if kd = 104 then Value.long (hJ G a i) else if kd = 105 then Value.double (hD G a i) else if kd = 106 ∨ kd = 107 then rv (hQ G a i) else Value.int (u2 (hA G) a i v a i)) = _
    simp [hk, u2]
  · unfold av
    show (if kd2 = 104 then Value.long (hJ G b j) else if kd2 = 105 then Value.double (hD G b j) else if kd2 = 106 ∨ kd2 = 107 then rv (hQ G b j) else Value.int (u2 (hA G) a i v b j)) = _
    simp only [u2, if_neg h]
theorem putA_Q {kd a i : Nat} {v : Nat} (hk : kd = 106) : PutA G (sQ G a i v) kd a i (rv v) := by
  refine ⟨rfl, rfl, rfl, rfl, rfl, ?_, fun kd2 b j h => ?_⟩
  · unfold av
    show (if kd = 104 then Value.long (hJ G a i) else if kd = 105 then Value.double (hD G a i) else if kd = 106 ∨ kd = 107 then rv (u2 (hQ G) a i v a i) else Value.int (hA G a i)) = _
    simp [hk, u2]
  · unfold av
    show (if kd2 = 104 then Value.long (hJ G b j) else if kd2 = 105 then Value.double (hD G b j) else if kd2 = 106 ∨ kd2 = 107 then rv (u2 (hQ G) a i v b j) else Value.int (hA G b j)) = _
    simp only [u2, if_neg h]
theorem putA_J {kd a i : Nat} {v : Int64} (hk : kd = 104) : PutA G (sJ G a i v) kd a i (.long v) := by
  refine ⟨rfl, rfl, rfl, rfl, rfl, ?_, fun kd2 b j h => ?_⟩
  · unfold av
    show (if kd = 104 then Value.long (u2 (hJ G) a i v a i) else if kd = 105 then Value.double (hD G a i) else if kd = 106 ∨ kd = 107 then rv (hQ G a i) else Value.int (hA G a i)) = _
    simp [hk, u2]
  · unfold av
    show (if kd2 = 104 then Value.long (u2 (hJ G) a i v b j) else if kd2 = 105 then Value.double (hD G b j) else if kd2 = 106 ∨ kd2 = 107 then rv (hQ G b j) else Value.int (hA G b j)) = _
    simp only [u2, if_neg h]
theorem putA_D {kd a i : Nat} {v : UInt64} (hk : kd = 105) : PutA G (sD G a i v) kd a i (.double v) := by
  refine ⟨rfl, rfl, rfl, rfl, rfl, ?_, fun kd2 b j h => ?_⟩
  · unfold av
    show (if kd = 104 then Value.long (hJ G a i) else if kd = 105 then Value.double (u2 (hD G) a i v a i) else if kd = 106 ∨ kd = 107 then rv (hQ G a i) else Value.int (hA G a i)) = _
    simp [hk, u2]
  · unfold av
    show (if kd2 = 104 then Value.long (hJ G b j) else if kd2 = 105 then Value.double (u2 (hD G) a i v b j) else if kd2 = 106 ∨ kd2 = 107 then rv (hQ G b j) else Value.int (hA G b j)) = _
    simp only [u2, if_neg h]
theorem r_iast {K : AH → Option α} {a : Nat} {i : Int32} {v : Int32} (hd : decode k.2.1 pc = .ok (.iastore, 1)) (kk : ∀ G1, AW ρ γ l k G0 (pc + 1) lv st G1 (K G1)) : AW ρ γ l k G0 pc lv (.int v :: .int i :: .ref a :: st) G (pA γ G 101 a i v K) := by
  refine AW_chk (fun hx => AW_step (G1 := sA G a i.toNatClampNeg (vN (aTy 101) v)) 0 0 rfl rfl (fun p e R s m args below meth c H locs ls cells slots Q C hP hV hl _ _ w => ?_) (kk _))
  obtain ⟨ha, cell, g1, g2, g3, g4, g5, g6⟩ := hP.elem (by decide) hx.1
  rw [List.map_cons, List.map_cons, List.map_cons, show cv (.ref a) = .ref (a - 1) from rv_pos (by omega)]
  exact W.iast C.1 C.2.1 g1 g2 g3 g5 rfl rfl hd fun H1 z1 z2 z3 => w H1 _ (hP.putA (kd := 101) (by decide) hx.1.1 (vN_fit 101 (by decide) v) (putA_A (v := v) (by decide)) g1 z1 z2 z3) (hV.put z2 z3 (by have := hx.2; show γ.2 ≤ a - 1; omega))
theorem r_bast {K : AH → Option α} {a : Nat} {i : Int32} {v : Int32} (hd : decode k.2.1 pc = .ok (.bastore, 1)) (kk : ∀ G1, AW ρ γ l k G0 (pc + 1) lv st G1 (K G1)) : AW ρ γ l k G0 pc lv (.int v :: .int i :: .ref a :: st) G (pA γ G 102 a i v K) := by
  refine AW_chk (fun hx => AW_step (G1 := sA G a i.toNatClampNeg (vN (aTy 102) v)) 0 0 rfl rfl (fun p e R s m args below meth c H locs ls cells slots Q C hP hV hl _ _ w => ?_) (kk _))
  obtain ⟨ha, cell, g1, g2, g3, g4, g5, g6⟩ := hP.elem (by decide) hx.1
  rw [List.map_cons, List.map_cons, List.map_cons, show cv (.ref a) = .ref (a - 1) from rv_pos (by omega)]
  exact W.bast C.1 C.2.1 g1 g2 g3 g5 rfl rfl hd fun H1 z1 z2 z3 => w H1 _ (hP.putA (kd := 102) (by decide) hx.1.1 (vN_fit 102 (by decide) v) (putA_A (v := vN .byte v) (by decide)) g1 z1 z2 z3) (hV.put z2 z3 (by have := hx.2; show γ.2 ≤ a - 1; omega))
theorem r_cast {K : AH → Option α} {a : Nat} {i : Int32} {v : Int32} (hd : decode k.2.1 pc = .ok (.castore, 1)) (kk : ∀ G1, AW ρ γ l k G0 (pc + 1) lv st G1 (K G1)) : AW ρ γ l k G0 pc lv (.int v :: .int i :: .ref a :: st) G (pA γ G 103 a i v K) := by
  refine AW_chk (fun hx => AW_step (G1 := sA G a i.toNatClampNeg (vN (aTy 103) v)) 0 0 rfl rfl (fun p e R s m args below meth c H locs ls cells slots Q C hP hV hl _ _ w => ?_) (kk _))
  obtain ⟨ha, cell, g1, g2, g3, g4, g5, g6⟩ := hP.elem (by decide) hx.1
  rw [List.map_cons, List.map_cons, List.map_cons, show cv (.ref a) = .ref (a - 1) from rv_pos (by omega)]
  exact W.cast C.1 C.2.1 g1 g2 g3 g5 rfl rfl hd fun H1 z1 z2 z3 => w H1 _ (hP.putA (kd := 103) (by decide) hx.1.1 (vN_fit 103 (by decide) v) (putA_A (v := vN .char v) (by decide)) g1 z1 z2 z3) (hV.put z2 z3 (by have := hx.2; show γ.2 ≤ a - 1; omega))
theorem r_last {K : AH → Option α} {a : Nat} {i : Int32} {v : Int64} (hd : decode k.2.1 pc = .ok (.lastore, 1)) (kk : ∀ G1, AW ρ γ l k G0 (pc + 1) lv st G1 (K G1)) : AW ρ γ l k G0 pc lv (.long v :: .int i :: .ref a :: st) G (pJ γ G a i v K) := by
  refine AW_chk (fun hx => AW_step (G1 := sJ G a i.toNatClampNeg v) 0 0 rfl rfl (fun p e R s m args below meth c H locs ls cells slots Q C hP hV hl _ _ w => ?_) (kk _))
  obtain ⟨ha, cell, g1, g2, g3, g4, g5, g6⟩ := hP.elem (by decide) hx.1
  rw [List.map_cons, List.map_cons, List.map_cons, show cv (.ref a) = .ref (a - 1) from rv_pos (by omega)]
  exact W.last C.1 C.2.1 g1 g2 g3 g5 rfl rfl hd fun H1 z1 z2 z3 => w H1 _ (hP.putA (kd := 104) (by decide) hx.1.1 rfl (putA_J rfl) g1 z1 z2 z3) (hV.put z2 z3 (by have := hx.2; show γ.2 ≤ a - 1; omega))
theorem r_dast {K : AH → Option α} {a : Nat} {i : Int32} {v : UInt64} (hd : decode k.2.1 pc = .ok (.dastore, 1)) (kk : ∀ G1, AW ρ γ l k G0 (pc + 1) lv st G1 (K G1)) : AW ρ γ l k G0 pc lv (.double v :: .int i :: .ref a :: st) G (pD γ G a i v K) := by
  refine AW_chk (fun hx => AW_step (G1 := sD G a i.toNatClampNeg v) 0 0 rfl rfl (fun p e R s m args below meth c H locs ls cells slots Q C hP hV hl _ _ w => ?_) (kk _))
  obtain ⟨ha, cell, g1, g2, g3, g4, g5, g6⟩ := hP.elem (by decide) hx.1
  rw [List.map_cons, List.map_cons, List.map_cons, show cv (.ref a) = .ref (a - 1) from rv_pos (by omega)]
  exact W.dast C.1 C.2.1 g1 g2 g3 g5 rfl rfl hd fun H1 z1 z2 z3 => w H1 _ (hP.putA (kd := 105) (by decide) hx.1.1 rfl (putA_D rfl) g1 z1 z2 z3) (hV.put z2 z3 (by have := hx.2; show γ.2 ≤ a - 1; omega))
theorem r_dald {K : UInt64 → Option α} {a : Nat} {i : Int32} (hd : decode k.2.1 pc = .ok (.daload, 1)) (kk : ∀ v : UInt64, AW ρ γ l k G0 (pc + 1) lv (.double v :: st) G (K v)) : AW ρ γ l k G0 pc lv (.int i :: .ref a :: st) G (gD G a i K) := by
  refine AW_chk (fun hx => AW_same (fun p e R s m args below meth c H locs ls cells slots Q C hP hV hl w => ?_) (kk _))
  obtain ⟨ha, cell, g1, g2, g3, g4, g5, g6⟩ := hP.elem (by decide) hx
  rw [List.map_cons, List.map_cons, show cv (.ref a) = .ref (a - 1) from rv_pos (by omega)]
  exact W.dald C.1 C.2.1 g1 g2 g3 g5 (v := cv (.double (hD G a i.toNatClampNeg))) g6 rfl rfl hd w
def gL {β : Type} (G : AH) (a : Nat) (K : Int32 → Option β) : Option β := if 100 ≤ hK G a then K (Int32.ofNat (hL G a)) else none
theorem r_alen {K : Int32 → Option α} {a : Nat} (hd : decode k.2.1 pc = .ok (.arraylength, 1)) (kk : ∀ v : Int32, AW ρ γ l k G0 (pc + 1) lv (.int v :: st) G (K v)) : AW ρ γ l k G0 pc lv (.ref a :: st) G (gL G a K) := by
  refine AW_chk (fun hx => AW_same (fun p e R s m args below meth c H locs ls cells slots Q C hP hV hl w => ?_) (kk _))
  obtain ⟨ha, cell, g1, g2, g3, g4, -⟩ := hP.ar hx
  rw [List.map_cons, show cv (.ref a) = .ref (a - 1) from rv_pos (by omega)]
  exact W.alen C.1 C.2.1 g1 g2 (by rw [g4]) rfl rfl hd w
theorem nA_K {kd n : Nat} : hK (nA G kd n) (hS G) = kd := by
  show u1 (hK G) (hS G) kd (hS G) = kd
  simp [u1]
theorem nA_L {kd n : Nat} : hL (nA G kd n) (hS G) = n := by
  show u1 (hL G) (hS G) n (hS G) = n
  simp [u1]
theorem nA_ne {kd n b : Nat} (h : b ≠ hS G) : hK (nA G kd n) b = hK G b ∧ hL (nA G kd n) b = hL G b ∧ (∀ g, fv (nA G kd n) g b = fv G g b) ∧ ∀ kd2 i, av (nA G kd n) kd2 b i = av G kd2 b i := by
  refine ⟨?_, ?_, fun g => rfl, fun kd2 i => ?_⟩
  · show u1 (hK G) (hS G) kd b = _
    simp [u1, h]
  · show u1 (hL G) (hS G) n b = _
    simp [u1, h]
  · unfold av
    show (if kd2 = 104 then Value.long (ur (hJ G) (hS G) (fun _ => 0) b i) else if kd2 = 105 then Value.double (ur (hD G) (hS G) (fun _ => 0) b i) else if kd2 = 106 ∨ kd2 = 107 then rv (ur (hQ G) (hS G) (fun _ => 0) b i) else Value.int (ur (hA G) (hS G) (fun _ => 0) b i)) = _
    simp only [ur, if_neg h]
theorem nA_av {kd n kd2 i : Nat} : av (nA G kd n) kd2 (hS G) i = if kd2 = 104 then .long 0 else if kd2 = 105 then .double 0 else if kd2 = 106 ∨ kd2 = 107 then .null else .int 0 := by
  unfold av
  show (if kd2 = 104 then Value.long (ur (hJ G) (hS G) (fun _ => 0) (hS G) i) else if kd2 = 105 then Value.double (ur (hD G) (hS G) (fun _ => 0) (hS G) i) else if kd2 = 106 ∨ kd2 = 107 then rv (ur (hQ G) (hS G) (fun _ => 0) (hS G) i) else Value.int (ur (hA G) (hS G) (fun _ => 0) (hS G) i)) = _
  simp only [ur, if_true]
  rfl
/-- a new array: of a length that is none too great -/
def mA {β : Type} (G : AH) (kd : Nat) (n : Int32) (K : Nat → AH → Option β) : Option β := if ¬ n < 0 ∧ n.toNatClampNeg ≤ 60000000 then K (hS G) (nA G kd n.toNatClampNeg) else none
theorem rep_nA {s : State} {H H1 : Heap} {kd n : Nat} {cA : ClassId} (hP : Rep γ s G H) (hkd : 100 ≤ kd) {d : Value} (hdv : ∀ i, av (nA G kd n) kd (hS G) i = d) (hfd : fits (aTy kd) d = true) (z1 : H1[H.size]? = some { cls := cA, slots := Array.replicate n d, vm := .none }) (z2 : H1.size = H.size + 1) (z3 : ∀ q, q < H.size → H1[q]? = H[q]?)
    (harr : ∃ kA, s.vm.classes[cA]? = some kA ∧ ∃ comp, kA.kind = .array comp (aTy kd)) (h6 : kd = 106 → ∃ (kA : Class) (comp : ClassId) (kc : Class), s.vm.classes[cA]? = some kA ∧ kA.kind = .array comp (.object "java/lang/Object") ∧ s.vm.findClass "java/lang/Object" = some comp ∧ s.vm.classes[comp]? = some kc)
    (h7 : kd = 102 ∨ kd = 106 → s.vm.findClass (aNm kd) = some cA) : Rep γ s (nA G kd n) H1 := by
  have hH := hP.1
  refine hP.push rfl (fun b hb => nA_ne hb) z2 z3 ⟨fun q => by rw [nA_K] at q; omega, fun _ => ?_⟩
  rw [nA_K]
  refine ⟨_, (by rw [← hH]; exact z1), ⟨(fun k h => by cases h), harr⟩, (fun h => by cases h), (by rw [nA_L]; simp), fun i hi => ?_, h6, h7⟩
  rw [nA_L] at hi
  rw [hdv]
  exact ⟨by simp [hi], hfd⟩
theorem va_Sgrow {A : Nat → Prop} {H0 H H1 : Heap} {locs : List Loc} (hV : va_S A H0 H locs) (z2 : H1.size = H.size + 1) (z3 : ∀ q, q < H.size → H1[q]? = H[q]?) : va_S A H0 H1 locs :=
  ⟨Nat.le_trans hV.1 (by omega), fun x h1 h2 => (z3 x (Nat.lt_of_lt_of_le h1 hV.1)).trans (hV.2.1 x h1 h2), hV.2.2⟩
theorem dfl_fit {kd : Nat} (h : 100 ≤ kd ∧ kd < 106) : fits (aTy kd) (defaultValue (aTy kd)) = true := by
  have : kd = 100 ∨ kd = 101 ∨ kd = 102 ∨ kd = 103 ∨ kd = 104 ∨ kd = 105 := by omega
  rcases this with h | h | h | h | h | h <;> subst h <;> rfl
theorem r_newa {K : Nat → AH → Option α} {kd : Nat} {atype : ArrayType} {n : Int32} (hd : decode k.2.1 pc = .ok (.newarray atype, 2)) (hq : Cond.arrayClass (newarray.typeOf atype) ∈ lw_all) (hkd : 100 ≤ kd ∧ kd < 106) (hty : newarray.typeOf atype = aTy kd) (hb : componentBytes (newarray.typeOf atype) ≤ 8)
    (hdv : ∀ n i, av (nA G kd n) kd (hS G) i = defaultValue (newarray.typeOf atype)) (hnm : kd = 102 → "[" ++ (newarray.typeOf atype).toString = "[B") (kk : ∀ (q : Nat) (G1 : AH), AW ρ γ l k G0 (pc + 2) lv (.ref q :: st) G1 (K q G1)) : AW ρ γ l k G0 pc lv (.int n :: st) G (mA G kd n K) := by
  refine AW_chk (fun hx => AW_step (G1 := nA G kd n.toNatClampNeg) 1 n.toNatClampNeg rfl rfl (fun p e R s m args below meth c9 H locs ls cells slots Q C hP hV hl hc hs w => ?_) (kk (hS G) _))
  have hH := hP.1
  have e0 : cv (.ref (hS G)) = .ref H.size := by rw [← hH]; rfl
  refine W.newa C.1 C.2.1 (C.2.2.2.2.2.2.2.2.1 _ hq) rfl hd rfl hx.1 (Nat.le_trans (Nat.mul_le_mul hx.2 hb) (by decide)) hc hs (fun cA kA comp g1 g2 g3 => ?_)
  have z3 : ∀ q, q < H.size → (H.push ({ cls := cA, slots := Array.replicate n.toNatClampNeg (defaultValue (newarray.typeOf atype)), vm := .none } : Cell))[q]? = H[q]? := fun q hq => by rw [Array.getElem?_push, if_neg (Nat.ne_of_lt hq)]
  have w1 := w _ locs (rep_nA (kd := kd) (n := n.toNatClampNeg) (cA := cA) hP hkd.1 (hdv _) (by rw [hty]; exact dfl_fit hkd) (by simp) (by simp) z3 ⟨kA, g2, comp, by rw [← hty]; exact g3⟩ (fun q => by omega) (fun q => by
    rcases q with q | q
    · rw [← g1, hnm q, q]; rfl
    · omega)) (va_Sgrow hV (by simp) z3)
  rw [List.map_cons, e0] at w1
  exact w1
theorem r_anewa {K : Nat → AH → Option α} {idx : Nat} {n : Int32} (hd : decode k.2.1 pc = .ok (.anewarray idx, 3)) (hq : Cond.classLink k.1 idx "java/lang/Object" ∈ lw_all) (ho : Cond.arrayOver (.object "java/lang/Object") ∈ lw_mv) (kk : ∀ (q : Nat) (G1 : AH), AW ρ γ l k G0 (pc + 3) lv (.ref q :: st) G1 (K q G1)) : AW ρ γ l k G0 pc lv (.int n :: st) G (mA G 106 n K) := by
  refine AW_chk (fun hx => AW_step (G1 := nA G 106 n.toNatClampNeg) 1 n.toNatClampNeg rfl rfl (fun p e R s m args below meth c9 H locs ls cells slots Q C hP hV hl hc hs w => ?_) (kk (hS G) _))
  have hH := hP.1
  have e0 : cv (.ref (hS G)) = .ref H.size := by rw [← hH]; rfl
  refine W.anew C.1 C.2.1 C.2.2.2.2.2.1 (C.2.2.2.2.2.2.2.2.1 _ hq) (va_AO.use (C.2.2.2.2.2.2.2.2.2.1.1 _ ho)) rfl hd rfl hx.1 (Nat.le_trans (Nat.mul_le_mul hx.2 (Nat.le_refl 4)) (by decide)) hc hs (fun cA kA comp g1 g2 g3 g4 => ?_)
  have z3 : ∀ q, q < H.size → (H.push ({ cls := cA, slots := Array.replicate n.toNatClampNeg .null, vm := .none } : Cell))[q]? = H[q]? := fun q hq => by rw [Array.getElem?_push, if_neg (Nat.ne_of_lt hq)]
  obtain ⟨kc, hkc, -⟩ := Vm.findClass_spec g4
  have w1 := w _ locs (rep_nA (kd := 106) (n := n.toNatClampNeg) (cA := cA) (d := .null) hP (by decide) (fun i => by rw [nA_av]; rfl) rfl (by simp) (by simp) z3 ⟨kA, g2, comp, g3⟩ (fun _ => ⟨kA, comp, kc, g2, g3, g4, hkc⟩) (fun _ => g1)) (va_Sgrow hV (by simp) z3)
  rw [List.map_cons, e0] at w1
  exact w1
theorem r_aast {K : AH → Option α} {a : Nat} {i : Int32} {v : Nat} (hd : decode k.2.1 pc = .ok (.aastore, 1)) (kk : ∀ G1, AW ρ γ l k G0 (pc + 1) lv st G1 (K G1)) : AW ρ γ l k G0 pc lv (.ref v :: .int i :: .ref a :: st) G (pQ γ G a i v K) := by
  refine AW_chk (fun hx => AW_step (G1 := sQ G a i.toNatClampNeg v) 0 0 rfl rfl (fun p e R s m args below meth c H locs ls cells slots Q C hP hV hl _ _ w => ?_) (kk _))
  obtain ⟨ha, cell, g1, g2, g3, g4, g5, g6⟩ := hP.elem (by decide) hx.1.1
  obtain ⟨-, cell2, t1, -, -, -, -, t6, -⟩ := hP.ar (a := a) (by rw [hx.1.1.1]; decide)
  cases g1.symm.trans t1
  obtain ⟨kA, comp, kc, y1, y2, y3, y4⟩ := t6 hx.1.1.1
  have hvo : hK G v ≠ 0 ∧ hK G v < 100 := by
    have : ∀ c ∈ stO, c ≠ 0 ∧ c < 100 := by decide
    exact this _ hx.2
  obtain ⟨hv0, cv1, x1, x2, x3, x4, -⟩ := hP.ob hvo.1 hvo.2
  obtain ⟨kv, x5, -⟩ := Vm.findClass_spec x2
  obtain ⟨c3, c4, hc3, hc4, hasg⟩ := Cond.castable_spec ((C.2.2.2.2.2.2.2.2.2.1.1 _ (stO_cast _ hx.2)).use (A := args) rfl)
  cases Option.some.inj (hc3.symm.trans x2)
  cases Option.some.inj (hc4.symm.trans y3)
  rw [List.map_cons, List.map_cons, List.map_cons, show cv (.ref a) = .ref (a - 1) from rv_pos (by omega), show cv (.ref v) = .ref (v - 1) from rv_pos (by omega)]
  refine W.aast C.1 C.2.1 g1 g2.1 g3 y1 y2 rfl y4 ⟨fun q => g5 (Or.inl q), Nat.lt_of_not_le (fun q => g5 (Or.inr q))⟩ x1 (fun q h => by rw [h] at x4; cases x4) x5 hasg rfl rfl hd fun H1 z1 z2 z3 => ?_
  exact w H1 _ (hP.putA (kd := 106) (by decide) hx.1.1.1 (nar_rv rfl v).2 (putA_Q rfl) g1 (by rw [show rv v = .ref (v - 1) from rv_pos (by omega)]; exact z1) z2 z3) (hV.put z2 z3 (by have := hx.1.2; show γ.2 ≤ a - 1; omega))
/-! casts, statics, Strings -/
theorem Rep.ob2 {s : State} {H : Heap} (h : Rep γ s G H) {a : Nat} (h0 : hK G a ≠ 0 ∧ hK G a < 100) : cv (.ref a) = .ref (a - 1) ∧ ∃ cell : Cell, H[a - 1]? = some cell ∧ cell.vm.isStatics = false ∧ s.vm.findClass (cN (hK G a)) = some cell.cls := by
  obtain ⟨ha, cell, g1, g2, g3, g4, -⟩ := h.ob h0.1 h0.2
  exact ⟨rv_pos (by omega), cell, g1, g4, g2⟩
/-- the class of a, one of the list L -/
abbrev okC (G : AH) (L : List Nat) (a : Nat) : Prop := hK G a ∈ L
theorem AW_cast {idx a : Nat} {T : String} (hd : decode k.2.1 pc = .ok (.checkcast idx, 3)) (hq : Cond.classLink k.1 idx T ∈ lw_all) (hc : a = 0 ∨ (hK G a ≠ 0 ∧ hK G a < 100 ∧ (cN (hK G a) = T ∨ Cond.castable (cN (hK G a)) T ∈ lw_mv))) (kk : AW ρ γ l k G0 (pc + 3) lv (.ref a :: st) G x) : AW ρ γ l k G0 pc lv (.ref a :: st) G x := by
  refine AW_same (fun p e R s m args below meth c H locs ls cells slots Q C hP hV hl w => ?_) kk
  rcases hc with h0 | ⟨h0, h1, h2⟩
  · subst h0
    exact lv_castN C.1 C.2.1 hd w
  · obtain ⟨e0, hr⟩ := hP.ob2 ⟨h0, h1⟩
    rw [List.map_cons, e0] at w ⊢
    rcases h2 with h2 | h2
    · rw [h2] at hr
      exact va_castE C.1 C.2.1 C.2.2.2.2.2.1 (C.2.2.2.2.2.2.2.2.1 _ hq) hr hd w
    · exact va_castY C.1 C.2.1 C.2.2.2.2.2.1 (C.2.2.2.2.2.2.2.2.1 _ hq) (C.2.2.2.2.2.2.2.2.2.1.1 _ h2) hr hd w
/-- checkcast: null or one of the classes L -/
def gC {β : Type} (G : AH) (L : List Nat) (a : Nat) (x : Option β) : Option β := if a = 0 ∨ okC G L a then x else none
theorem r_cast_ {idx a : Nat} {T : String} {L : List Nat} (hd : decode k.2.1 pc = .ok (.checkcast idx, 3)) (hq : Cond.classLink k.1 idx T ∈ lw_all) (hL : ∀ c ∈ L, c ≠ 0 ∧ c < 100 ∧ (cN c = T ∨ Cond.castable (cN c) T ∈ lw_mv)) (kk : AW ρ γ l k G0 (pc + 3) lv (.ref a :: st) G x) : AW ρ γ l k G0 pc lv (.ref a :: st) G (gC G L a x) :=
  AW_chk (fun hc => AW_cast hd hq (hc.elim Or.inl (fun h => Or.inr (hL _ h))) kk)
/-- .. of an array of bytes or of references -/
def gCA {β : Type} (G : AH) (kd : Nat) (a : Nat) (x : Option β) : Option β := if hK G a = kd then x else none
theorem r_castA {idx a kd : Nat} {nm : String} (hkd : kd = 102 ∨ kd = 106) (hnm : aNm kd = nm) (hd : decode k.2.1 pc = .ok (.checkcast idx, 3)) (hq : Cond.classLink k.1 idx nm ∈ lw_all) (kk : AW ρ γ l k G0 (pc + 3) lv (.ref a :: st) G x) : AW ρ γ l k G0 pc lv (.ref a :: st) G (gCA G kd a x) := by
  refine AW_chk (fun hc => AW_same (fun p e R s m args below meth c H locs ls cells slots Q C hP hV hl w => ?_) kk)
  obtain ⟨ha, cell, g1, g2, g3, g4, g5, g6, g7⟩ := hP.ar (a := a) (by omega)
  rw [List.map_cons, show cv (.ref a) = .ref (a - 1) from rv_pos (by omega)] at w ⊢
  subst hnm
  refine va_castE C.1 C.2.1 C.2.2.2.2.2.1 (C.2.2.2.2.2.2.2.2.1 _ hq) ⟨cell, g1, ?_, ?_⟩ hd w
  · cases hcv : cell.vm <;> first | rfl | exact absurd hcv (g2.1 _)
  · rw [hc] at g7
    exact g7 hkd
/-- instanceof: one of the classes L1 (it is), of L0 (it isn't), or null -/
def gInst {β : Type} (G : AH) (L1 L0 : List Nat) (a : Nat) (K : Int32 → Option β) : Option β := if a ≠ 0 ∧ okC G L1 a then K 1 else if a = 0 ∨ okC G L0 a then K 0 else none
theorem r_inst {K : Int32 → Option α} {idx a : Nat} {T : String} {L1 L0 : List Nat} (hd : decode k.2.1 pc = .ok (.instanceof idx, 3)) (hq : Cond.classLink k.1 idx T ∈ lw_all) (hL1 : ∀ c ∈ L1, c ≠ 0 ∧ c < 100 ∧ (cN c = T ∨ Cond.castable (cN c) T ∈ lw_mv)) (hL0 : ∀ c ∈ L0, c ≠ 0 ∧ c < 100 ∧ (cN c, T) ∈ sNC) (kk : ∀ v, AW ρ γ l k G0 (pc + 3) lv (.int v :: st) G (K v)) : AW ρ γ l k G0 pc lv (.ref a :: st) G (gInst G L1 L0 a K) := by
  unfold gInst
  by_cases h1 : a ≠ 0 ∧ okC G L1 a
  · rw [if_pos h1]
    refine AW_same (fun p e R s m args below meth c H locs ls cells slots Q C hP hV hl w => ?_) (kk 1)
    obtain ⟨q0, q1, q2⟩ := hL1 _ h1.2
    obtain ⟨e0, hr⟩ := hP.ob2 ⟨q0, q1⟩
    rw [List.map_cons, e0]
    rcases q2 with h2 | h2
    · rw [h2] at hr
      exact va_instE C.1 C.2.1 C.2.2.2.2.2.1 (C.2.2.2.2.2.2.2.2.1 _ hq) hr hd w
    · exact va_instY C.1 C.2.1 C.2.2.2.2.2.1 (C.2.2.2.2.2.2.2.2.1 _ hq) (C.2.2.2.2.2.2.2.2.2.1.1 _ h2) hr hd w
  · rw [if_neg h1]
    refine AW_chk (fun hc => AW_same (fun p e R s m args below meth c H locs ls cells slots Q C hP hV hl w => ?_) (kk 0))
    rcases hc with hc | hc
    · subst hc
      exact lv_instN C.1 C.2.1 hd w
    · obtain ⟨q0, q1, q2⟩ := hL0 _ hc
      obtain ⟨e0, hr⟩ := hP.ob2 ⟨q0, q1⟩
      rw [List.map_cons, e0]
      exact va_instNo C.1 C.2.1 C.2.2.2.2.2.1 (C.2.2.2.2.2.2.2.2.1 _ hq) (C.2.2.2.2.2.2.2.2.2.1.2.2.2.2.2.1 _ q2) hr hd w
theorem r_gets {i idx : Nat} {Cn n d ref : String} (hd : decode k.2.1 pc = .ok (.getstatic idx, 3)) (hq : Cond.fieldLink k.1 idx ref n d ∈ lw_all) (hm : (i, Cn, n, d) ∈ sTR) (hr : ref = Cn) (kk : AW ρ γ l k G0 (pc + 3) lv (.ref (γ.1 i) :: st) G x) : AW ρ γ l k G0 pc lv st G x :=
  AW_same (fun p e R s m args below meth c H locs ls cells slots Q C hP hV hl w => va_gets C.1 C.2.1 (C.2.2.2.2.2.2.2.2.2.1.2.1 _ hm) hV C.2.2.2.2.2.1 (C.2.2.2.2.2.2.2.2.1 _ hq) (fun x hx => by rw [hr]; exact hx) hd w) kk
theorem r_getsI {v : Int32} {idx : Nat} {Cn n d ref : String} (hd : decode k.2.1 pc = .ok (.getstatic idx, 3)) (hq : Cond.fieldLink k.1 idx ref n d ∈ lw_all) (hm : (v, Cn, n, d) ∈ sTI) (hr : ref = Cn) (kk : AW ρ γ l k G0 (pc + 3) lv (.int v :: st) G x) : AW ρ γ l k G0 pc lv st G x :=
  AW_same (fun p e R s m args below meth c H locs ls cells slots Q C hP hV hl w => va_gets C.1 C.2.1 (C.2.2.2.2.2.2.2.2.2.1.2.2.1 _ hm) hV C.2.2.2.2.2.1 (C.2.2.2.2.2.2.2.2.1 _ hq) (fun x hx => by rw [hr]; exact hx) hd w) kk
theorem r_ldcS {i idx : Nat} {tx : String} (hd : decode k.2.1 pc = .ok (.ldc idx, 2)) (hm : (i, k.1, idx, tx) ∈ sST) (kk : AW ρ γ l k G0 (pc + 2) lv (.ref (γ.1 i) :: st) G x) : AW ρ γ l k G0 pc lv st G x :=
  AW_same (fun p e R s m args below meth c H locs ls cells slots Q C hP hV hl w => by
    obtain ⟨h0, h1⟩ := C.2.2.2.2.2.2.2.2.2.1.2.2.2.1 _ hm
    rw [List.map_cons, show cv (.ref (γ.1 i)) = .ref (γ.1 i - 1) from rv_pos (Nat.ne_of_gt h0)] at w
    exact va_ldcS C.1 C.2.1 C.2.2.2.2.2.1 h1 hd w) kk
theorem r_ldcM {i idx : Nat} {T : String} (hd : decode k.2.1 pc = .ok (.ldc idx, 2)) (hq : Cond.classLink k.1 idx T ∈ lw_all) (hm : (i, T) ∈ sMI) (kk : AW ρ γ l k G0 (pc + 2) lv (.ref (γ.1 i) :: st) G x) : AW ρ γ l k G0 pc lv st G x :=
  AW_same (fun p e R s m args below meth c H locs ls cells slots Q C hP hV hl w => by
    obtain ⟨h0, h1⟩ := C.2.2.2.2.2.2.2.2.2.1.2.2.2.2.1 _ hm
    rw [List.map_cons, show cv (.ref (γ.1 i)) = .ref (γ.1 i - 1) from rv_pos (Nat.ne_of_gt h0)] at w
    exact va_ldcM C.1 C.2.1 C.2.2.2.2.2.1 (C.2.2.2.2.2.2.2.2.1 _ hq) h1 hd w) kk
end AWh
