def setL (S : St) (w : Nat) (l : List Ln) : St := (S.1, sg S, sk S, sc S, u1 (sl S) w l, sv S)
theorem sl_setL (S : St) (w : Nat) (l : List Ln) (x : Nat) : sl (setL S w l) x = if x = w then l else sl S x := rfl
section C27
variable {γ : GP} {G G0 g g1 : AH} {ga gt : Nat → Nat} {tr tr1 : Nat → List Nat} {et et1 : Nat → Nat → Nat} {S T : St} {hb B : Nat → Prop} {ms : List Ms}
theorem wp_bVs {β : Type} {a : Nat} {X : Option AH} {P : Nat × AH → Prop} {R : AH → Option β} {Q : β → Prop} (h : wp (bV X fun g => some (a, g)) P) (k : ∀ g, P (a, g) → wp (R g) Q) : wp (bV X R) Q := by
  cases X with
  | none =>
    obtain ⟨r, e, _⟩ := h
    cases e
  | some x =>
    obtain ⟨r, e, p⟩ := h
    cases e
    exact k x p
/-- the host's copy -/
theorem copyHost {β : Type} {Q : β → Prop} {K : AH → Option β} (h0 : KS γ ga tr et B S ms G0) (F : Fc (fun a => hS G0 ≤ a) G0 g) (hT : KS γ gt tr1 et1 hb T [] g) (hsep : ∀ a, hb a → hS G0 ≤ a) (hf : sg S 3 = 0 ∨ sg S 3 = 1) (hl : (sl S 0).length ≤ 20) (hT0 : sl T 0 = []) (p5 : hR g 15 (gt 5) = γ.1 0)
    (k : ∀ r, KS γ gt tr1 et1 hb (setL (usg T 3 (sg S 3)) 0 (sl S 0)) [] r → Stq hb g r 2 50 → wp (K r) Q) :
    wp (bV (if hK g (gt 4) = 4 then f_X3_isLike γ (gt 4) (ga 4) g else none) K) Q := by
  have hw0 := h0.1
  have hs := h0.keepAll hT.1 F (fun a q => q)
  obtain ⟨L, l1, l2, l3⟩ := h0.linesH
  have nP : ∀ a, a < hS G0 → ¬ hS G0 ≤ a := fun a h => by omega
  refine wp_bV (wp_ifc hT.k4.1 ?_)
  unfold f_X3_isLike
  rw [gI_ok (okf hs.k4.1 (by decide)), hs.k4.2.1]
  refine hT.pOut hf (fun h1 s1 => ?_)
  have F1 : Fc (fun a => hS G0 ≤ a) G0 (sI g 17 (gt 4) (sg S 3)) := F.trans s1.1 hw0 (fun a e => Or.inl (hsep a e))
  have e15 : hR (sI g 17 (gt 4) (sg S 3)) 15 (gt 5) = γ.1 0 := p5
  have st1 := s1
  generalize sI g 17 (gt 4) (sg S 3) = g1 at *
  have hs1 := h0.keepAll h1.1 F1 (fun a q => q)
  have lg := AL.keepC hw0 F1 l1 (nP _ (hw0.k l1.1 (by decide))) (fun _ => nP _ (hw0.k l1.2.2.2.1 (by decide)))
  have lf : ∀ j, j < L.length → LineF g1 (nd L j) ((sl S 0).getD j (0, 0, 0)) := fun j hj => (l3 j hj).1.keep hw0 F1 (nP _ (l3 j hj).2.2)
  obtain ⟨own, kT, o9⟩ := h1.freeze (L := L) (fun a ha => by
    obtain ⟨j, hj, e⟩ := List.getElem_of_mem ha
    rw [← e, ← nd_get hj, (lf j hj).1]
    exact ⟨by decide, by decide, (l3 j hj).2.1, fun q => nP _ (l3 j hj).2.2 (hsep _ q)⟩)
  rw [gR_ok (okf h1.k4.1 (by decide)), h1.k4.2.2.1, gR_ok (okf hs1.k4.1 (by decide)), hs1.k4.2.2.1]
  obtain ⟨hw1, hc1, h3, h4, _⟩ := h1
  have k5 := kT.2.2.2.2.2.1
  obtain ⟨L5, q1, q2, q3⟩ := k5
  have eL5 : L5 = [] := List.eq_nil_of_length_eq_zero (by rw [q2, show sl (usg T 3 (sg S 3)) 0 = sl T 0 from rfl, hT0]; rfl)
  rw [eL5] at q1
  have le0 : γ.1 0 ≤ γ.2 := hc1.le (by decide)
  refine wp_bI (wp_ifc q1.1.1 (wp_mono (AL.addAll0 hw1 hc1.lt q1.1 e15 hc1.emp.2 lg.1 (by omega)) (fun r hr => wp_some ?_)))
  obtain ⟨r1, r2, r3, r4, r5, r6⟩ := hr
  have fc : Fc (fun b => own b = 5) g1 r.2 := (r3.toC hw1 (fun b _ e => by rw [e, q1.1.1]; decide)).mono (fun b _ e => by rw [e]; exact q1.2.1)
  have base : ∀ a, own a = 5 → hb a := fun a e => kT.1.2.2.1 a (by rw [e]; decide) (by rw [e]; decide)
  have fh : Fc hb g1 r.2 := fc.mono (fun a _ q => base a q)
  have l5 := hw1.k q1.1.1 (by decide)
  refine k r.2 ⟨r4, hc1.keep fh h3, h3, fun a q => h4 a (Nat.le_trans fh.le q), ext own (hK r.2) (hS g1) (hS r.2) 0 5, ?_⟩ ((st1.trans hT.1 (⟨fh, r4, r5, r6⟩ : Stq hb g1 r.2 2 (2 * L.length + 10))).mono (by omega) (by omega))
  refine kT.upd hw1 hc1 r4 (T := 5) ⟨by omega, by omega, by omega, by omega, fun j2 hj2 => by omega⟩ fc (fun a ha => ext_old ha) (fun a ha => ext_out ha fh.le) (fun a ha e => by
      have := ext_9 ha (by decide) e
      have := hc1.lt
      omega) (fun a ha y1 y2 => ext_k ha y1 y2) (Or.inl h4) rfl rfl
    (fun q => by omega) (fun q => ⟨rfl, rfl⟩) (fun q => by omega) (fun q => rfl) (fun _ => ?_) (fun q => absurd rfl q) (fun q => by omega) (fun q => rfl)
    (fun i2 hi2 q => by omega) (fun i2 hi2 q => ⟨rfl, rfl⟩) (fun i2 hi2 q => by omega) (fun i2 hi2 q => by rw [sl_setL, if_neg (by omega)]) (fun i2 hi2 b2 hb2 q => by omega) (fun i2 hi2 b2 hb2 q y2 hy2 => rfl)
    (fun j2 hj2 q => by omega) (fun j2 hj2 q => ⟨rfl, rfl, rfl, rfl⟩) (fun j2 hj2 d2 hd2 => rfl) (fun j2 hj2 d2 hd2 _ q => by omega) (fun j2 hj2 d2 hd2 q => ⟨rfl, rfl, rfl⟩)
  rw [sl_setL, if_pos rfl]
  refine ⟨L, ⟨r1, by rw [ext_old l5]; exact q1.2.1, fun q => ?_⟩, l2, fun j hj => ?_⟩
  · rcases r2 with e | e
    · rw [e] at q; omega
    · have kk := r1.2.2.2.1
      exact ext_new e (r4.k kk (by decide)) (by have := hc1.lt; omega) (by rw [kk]; decide)
  · have hj2 : j < L.length := by omega
    obtain ⟨y1, y2, y3, y4⟩ := lf j hj2
    have ll : LineR γ g1 own (nd L j) ((sl S 0).getD j (0, 0, 0)) := ⟨y1, o9 _ (nd_mem hj2), y2, y3, y4⟩
    exact ll.keep hw1 fc (fun b hb2 _ => ext_old hb2) (fun b e9 e5 => by rw [e9] at e5; exact absurd e5 (by decide))
/-- the messages' copy -/
theorem copyMsgs {β : Type} {Q : β → Prop} {K : AH → Option β} (h0 : KS γ ga tr et B S ms G0) (F : Fc (fun a => hS G0 ≤ a) G0 g) (hT : KS γ gt tr1 et1 hb T [] g) (hsep : ∀ a, hb a → hS G0 ≤ a) (hl : ms.length < 100000)
    (k : ∀ r, KS γ gt tr1 et1 hb T ms r → Stq hb g r (1 + ms.length) (4 * ms.length) → wp (K r) Q) :
    wp (bI (if hK g (gt 6) = 5 then f_J4_addAll γ (gt 6) (ga 6) g else none) fun _ g14 => K g14) Q := by
  have hw0 := h0.1
  have nP : ∀ a, a < hS G0 → ¬ hS G0 ≤ a := fun a h => by omega
  have h00 := h0
  obtain ⟨_, hc0, _, _, own0, k0⟩ := h0
  obtain ⟨ns, Z, b1, b2, b3, b4, b5⟩ := k0.msgsZ
  have hlo := hc0.lt
  have zl : ∀ z ∈ Z, z.1 < hS G0 := fun z hz => (hw0.2 _ (by have := (b5 z hz).2.k; omega)).2
  have zg : ∀ z ∈ Z, MsgF g z.1 z.2 := fun z hz => (b5 z hz).2.keep hw0 F (nP _ (zl z hz))
  have zlow : ∀ z ∈ Z, γ.2 < z.1 := fun z hz => by
    rcases Nat.lt_or_ge γ.2 z.1 with q | q
    · exact q
    · have := (b5 z hz).1
      rw [k0.1.1 _ q] at this
      exact absurd this (by decide)
  have hZl : Z.length = ms.length := by rw [b2, List.length_map]
  have srcL : LL γ g (ga 6) ns (Z.map (·.1)) := b1.keepC hw0 F (nP _ (hw0.k b1.1 (by decide))) (fun a ha => by
    obtain ⟨i, hi, e⟩ := List.getElem_of_mem ha
    have kk := (b1.2.2.2.2.2.2.2 i hi).1
    rw [nd_get hi, e] at kk
    exact nP _ (hw0.k kk (by decide)))
  obtain ⟨own, kT, o9⟩ := hT.freeze (L := Z.map (·.1)) (fun a ha => by
    obtain ⟨z, hz, e⟩ := List.mem_map.mp ha
    rw [← e]
    have := (zg z hz).k
    exact ⟨this.1, this.2, zlow z hz, fun q => nP _ (zl z hz) (hsep _ q)⟩)
  obtain ⟨hw1, hc1, h3, h4, _⟩ := hT
  obtain ⟨nsT, LT, a1, a2, a3, a4, a5⟩ := kT.2.2.2.2.2.2.1
  have eLT : LT = [] := List.eq_nil_of_length_eq_zero (by rw [a4]; rfl)
  have ensT : nsT = [] := List.eq_nil_of_length_eq_zero (by rw [a1.2.2.1, eLT]; rfl)
  rw [eLT, ensT] at a1
  refine wp_bI (wp_ifc a1.1 (wp_mono (LL.addAll (M := Z.map (·.1)) hw1 hc1.lt a1 (by rw [List.length_map]; show 0 + _ < _; omega) ?_) (fun r hr => ?_)))
  · rw [if_neg (by rw [srcL.1]; decide), if_pos srcL.1]
    exact LL.toArray hw1 hc1.lt srcL (fun v hv => by
      obtain ⟨z, hz, e⟩ := List.mem_map.mp hv
      rw [← e]
      have H : ∀ c ∈ [29, 30, 31, 32], c ∈ stO := by decide
      exact H _ (zg z hz).in4) (by rw [List.length_map]; omega)
  · obtain ⟨ns2, x1, x2, x3, x4, x5, x6⟩ := hr
    rw [List.nil_append] at x1
    rw [List.length_map] at x5 x6
    have fc : Fc (fun b => own b = 6) g r.2 := (x3.toC hw1 (fun b _ e => by
      rcases e with e | e
      · rw [e, a1.1]; decide
      · cases e)).mono (fun b _ e => by
      rcases e with e | e
      · rw [e]; exact a2
      · cases e)
    have base : ∀ a, own a = 6 → hb a := fun a e => kT.1.2.2.1 a (by rw [e]; decide) (by rw [e]; decide)
    have fh : Fc hb g r.2 := fc.mono (fun a _ q => base a q)
    have l6 := hw1.k a1.1 (by decide)
    refine k r.2 ⟨x4, hc1.keep fh h3, h3, fun a q => h4 a (Nat.le_trans fh.le q), ext own (hK r.2) (hS g) (hS r.2) 0 6, ?_⟩ ⟨fh, x4, by omega, by omega⟩
    refine kT.upd hw1 hc1 x4 (T := 6) ⟨by omega, by omega, by omega, by omega, fun j2 hj2 => by omega⟩ fc (fun a ha => ext_old ha) (fun a ha => ext_out ha fh.le) (fun a ha e => by
        have := ext_9 ha (by decide) e
        have := hc1.lt
        omega) (fun a ha y1 y2 => ext_k ha y1 y2) (Or.inl h4) rfl rfl
      (fun q => by omega) (fun q => ⟨rfl, rfl⟩) (fun q => by omega) (fun q => rfl) (fun q => by omega) (fun q => rfl) (fun _ => ?_) (fun q => absurd rfl q)
      (fun i2 hi2 q => by omega) (fun i2 hi2 q => ⟨rfl, rfl⟩) (fun i2 hi2 q => by omega) (fun i2 hi2 q => rfl) (fun i2 hi2 b2 hb2 q => by omega) (fun i2 hi2 b2 hb2 q y2 hy2 => rfl)
      (fun j2 hj2 q => by omega) (fun j2 hj2 q => ⟨rfl, rfl, rfl, rfl⟩) (fun j2 hj2 d2 hd2 => rfl) (fun j2 hj2 d2 hd2 _ q => by omega) (fun j2 hj2 d2 hd2 q => ⟨rfl, rfl, rfl⟩)
    refine ⟨ns2, Z.map (·.1), x1, by rw [ext_old l6]; exact a2, fun a ha => ?_, by rw [List.length_map, hZl], fun i hi => ?_⟩
    · rcases x2 a ha with e | e
      · cases e
      · obtain ⟨i, hi, e2⟩ := List.getElem_of_mem ha
        have kk := (x1.2.2.2.2.2.2.2 i hi).1
        rw [nd_get hi, e2] at kk
        have := hc1.lt
        exact ext_new e (x4.k kk (by decide)) (by omega) (by rw [kk]; decide)
    · have hi2 : i < Z.length := by omega
      have hz := List.getElem_mem hi2
      have o := o9 (Z[i]).1 (List.mem_map.mpr ⟨_, hz, rfl⟩)
      have lz : (Z[i]).1 < hS g := (hw1.2 _ (by have := (zg _ hz).k; omega)).2
      have ed : ms.getD i (0, 0, 0, 0) = (Z[i]).2 := by
        rw [b2, List.getD_eq_getElem?_getD, List.getElem?_map, List.getElem?_eq_getElem hi2]
        rfl
      rw [nd_get (by rw [List.length_map]; exact hi2), List.getElem_map, ed]
      exact ⟨by rw [ext_old lz]; exact o, (zg _ hz).keep hw1 fc (fun e => by rw [o] at e; exact absurd e (by decide))⟩
end C27
