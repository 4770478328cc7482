theorem zap_sR {G : AH} {f a v : Nat} (h : f = 68 ∨ f = 74) : zap (sR G f a v) = zap G := by
  have e : (fun x y => if x = 68 ∨ x = 74 then 0 else hR (sR G f a v) x y) = fun x y => if x = 68 ∨ x = 74 then 0 else hR G x y := by
    funext x y
    by_cases q : x = 68 ∨ x = 74
    · rw [if_pos q, if_pos q]
    · rw [if_neg q, if_neg q, hR_sR, if_neg (fun k => q (by rw [k.1]; exact h))]
  unfold zap
  rw [e]
  rfl
theorem wp_of_bind {β : Type} {x : Option β} {Q : β → Prop} (h : wp (x.bind some) Q) : wp x (fun r => Q r) := by
  cases x with
  | none => exact h
  | some r => exact h
section TMi
variable {γ : GP} {G : AH} {x : Nat} {T : List Nat} {m en : Nat → Nat}
theorem dsp10 {β : Type} {g : AH} {y : Nat} {a b c d : Option β} (h : hK g y = 10) : (if hK g y = 10 then a else if hK g y = 13 then b else if hK g y = 17 then c else if hK g y = 18 then d else none) = a := by rw [if_pos h]
theorem dsp13 {β : Type} {g : AH} {y : Nat} {a b c d : Option β} (h : hK g y = 13) : (if hK g y = 10 then a else if hK g y = 13 then b else if hK g y = 17 then c else if hK g y = 18 then d else none) = b := by rw [if_neg (by omega), if_pos h]
theorem dsp17 {β : Type} {g : AH} {y : Nat} {a b c d : Option β} (h : hK g y = 17) : (if hK g y = 10 then a else if hK g y = 13 then b else if hK g y = 17 then c else if hK g y = 18 then d else none) = c := by rw [if_neg (by omega), if_neg (by omega), if_pos h]
theorem dsp18 {β : Type} {g : AH} {y : Nat} {a b c d : Option β} (h : hK g y = 18) : (if hK g y = 10 then a else if hK g y = 13 then b else if hK g y = 17 then c else if hK g y = 18 then d else none) = d := by rw [if_neg (by omega), if_neg (by omega), if_neg (by omega), if_pos h]
/-- kept by a step that writes none of it -/
theorem TM.keepC {P : Nat → Prop} {G1 : AH} (h : TM γ G x T m en) (hw1 : Wf G1) (hF : Fc P G G1) (hlow : ∀ a, P a → γ.2 < a) (hc : γ.1 9 ≤ γ.2 ∧ hK G (γ.1 9) = 107 ∧ ∀ i, i < 6 → bx γ G i ≤ γ.2) (hx : ¬ P x) (he : ∀ i, i < 6 → th T i = true → ¬ P (en i)) : TM γ G1 x T m en := by
  have h' := h
  have hw := h.at0.2.2.2.2
  have hnl : ∀ a, a ≤ γ.2 → ¬ P a := fun a ha hp => absurd (hlow a hp) (by omega)
  have lc := (hw.2 (γ.1 9) (by rw [hc.2.1]; decide)).2
  have hbx : ∀ i, bx γ G1 i = bx γ G i := fun i => by
    show hQ G1 (γ.1 9) _ = hQ G (γ.1 9) _
    rw [hF.rQ lc (hnl _ hc.1)]
  obtain ⟨hT, ha, φ, R, p7, pk, pv⟩ := h
  refine ⟨hT, ha, φ, ?_, p7, fun i hi => by rw [hbx]; exact pk i hi, pv⟩
  obtain ⟨h1, h2, h3, h4, h5, h6, h7, h8, h9, h10⟩ := R
  have hlt : ∀ a, hK (mk T) a ≠ 0 → φ a < hS G := fun a q => (hw.2 (φ a) (by rw [h4 a q]; exact q)).2
  have hnP : ∀ a, hK (mk T) a ≠ 0 → hK (mk T) a ≠ 22 → ¬ P (φ a) := fun a q q22 => by
    rcases mk_cases q with ⟨i, hi, e, _⟩ | ⟨e, _⟩ | ⟨i, hi, ti, e, k⟩ | ⟨i, hi, ti, e, _⟩
    · rw [e, pk i hi]; exact hnl _ (hc.2.2 i hi)
    · rw [e, p7]; exact hx
    · exact absurd k q22
    · rw [e, (pv i hi ti).2]; exact he i hi ti
  have hI22 : ∀ a f, f ∈ tfI (hK (mk T) a) → hK (mk T) a ≠ 0 ∧ hK (mk T) a ≠ 22 := fun a f hf => ⟨fun q => tfI_0 (by rw [q] at hf; exact hf), fun q => by rw [q] at hf; exact absurd (show f ∈ [] from hf) List.not_mem_nil⟩
  have hR22 : ∀ a f, f ∈ tfR (hK (mk T) a) → hK (mk T) a ≠ 0 ∧ hK (mk T) a ≠ 22 ∧ f ≠ 68 ∧ f ≠ 74 := fun a f hf => ⟨fun q => tfR_0 (by rw [q] at hf; exact hf), fun q => by rw [q] at hf; exact absurd (show f ∈ [] from hf) List.not_mem_nil, by
    rcases tfR_c hf with q | q
    · rw [q] at hf
      have : f ∈ [69, 70] := hf
      simp at this
      omega
    · rw [q] at hf
      have : f ∈ [97, 98, 99, 100, 101] := hf
      simp at this
      omega⟩
  refine ⟨h1, h2, h3, fun a q => by rw [hF.kind (hlt a q)]; exact h4 a q, ⟨fun a f hf => ?_, fun a f hf => ?_⟩, h6, h7, ⟨Fr.refl _ _, fun _ _ _ _ => rfl⟩, hw1, rfl, rfl, h10.2.2⟩
  · have q := hI22 a f hf
    rw [hF.rI (hlt a q.1) (hnP a q.1 q.2)]
    exact h5.1 a f hf
  · have q := hR22 a f hf
    rw [hF.rR (hlt a q.1) (hnP a q.1 q.2.1) q.2.2]
    exact h5.2 a f hf
theorem TM.get (h : TM γ G x T m en) {i : Nat} (hi : i < 6) : f_J28_get γ x (bx γ G i) G = some (m i, G) := by
  unfold f_J28_get
  rw [if_pos h.at0.1, h.getEntry hi, bR_some]
  cases ht : th T i with
  | false =>
    rw [if_pos (h.2.1 i hi ht).2, (h.2.1 i hi ht).1]
  | true =>
    rw [if_neg ((h.mi hi).1 ht).2]
    unfold gR
    rw [if_pos (okf (h.ent hi ht).1 (by decide)), (h.ent hi ht).2.2.2.1]
def TIt (γ : GP) (G : AH) (it x : Nat) (en : Nat → Nat) (T : List Nat) (k c : Nat) : Prop := hK G it = c ∧ γ.2 < it ∧ hR G 80 it = enN en (nx T k) ∧ hR G 83 it = x ∧ hI G 82 it = hI G 72 x
theorem TM.enN0 (h : TM γ G x T m en) {k : Nat} : enN en (nx T k) = 0 ↔ ¬ nx T k < 6 := by
  unfold enN
  by_cases c : nx T k < 6
  · rw [if_pos c]
    have := ((h.mi c).1 (nx_lt c).1).2
    exact ⟨fun e => absurd e this, fun e => absurd c e⟩
  · rw [if_neg c]
    exact ⟨fun _ => c, fun _ => rfl⟩
theorem TIt.hasNext {it k c : Nat} (h : TM γ G x T m en) (t : TIt γ G it x en T k c) (hc : c = 17 ∨ c = 18) : f_J29_hasNext γ it G = some ((if nx T k < 6 then 1 else 0), G) := by
  unfold f_J29_hasNext gR
  have h80 : 80 ∈ cFl c := by rcases hc with e | e <;> rw [e] <;> decide
  rw [if_pos (okf t.1 h80), t.2.2.1]
  dsimp only
  by_cases q : nx T k < 6
  · rw [if_neg (fun e => (h.enN0.mp e) q), if_pos q]; rfl
  · rw [if_pos (h.enN0.mpr q), if_neg q]; rfl
theorem TIt.nextEntry {it k c : Nat} (hw : Wf G) (h : TM γ G x T m en) (t : TIt γ G it x en T k c) (hc : c = 17 ∨ c = 18) (q : nx T k < 6) : wp (f_J29_nextEntry γ it G) (fun r => r.1 = en (nx T k) ∧ TIt γ r.2 it x en T (nx T k + 1) c ∧ Fr (fun a => a = it) G r.2 ∧ Wf r.2 ∧ hS r.2 = hS G ∧ hM r.2 = hM G) := by
  obtain ⟨t1, t2, t3, t4, t5⟩ := t
  have hf : 80 ∈ cFl c ∧ 81 ∈ cFl c ∧ 82 ∈ cFl c ∧ 83 ∈ cFl c ∧ c < 37 := by rcases hc with e | e <;> rw [e] <;> decide
  have e3 : enN en (nx T k) = en (nx T k) := if_pos q
  have hx : x ≠ it := fun e => by
    have := h.at0.1
    rw [e, t1] at this
    rcases hc with e | e <;> omega
  unfold f_J29_nextEntry
  refine wp_gR (okf t1 hf.1) ?_
  rw [t3, if_neg (fun e => h.enN0.mp e q)]
  refine wp_gR (okf t1 hf.2.2.2.1) ?_
  rw [t4]
  refine wp_gI (okf (c := 15) h.at0.1 (by decide)) (wp_gI (okf t1 hf.2.2.1) ?_)
  rw [t5, if_pos rfl, e3, h.succ q (nx_lt q).1, bR_some]
  refine wp_pR (okw t1 ⟨hf.1, hf.2.2.2.2⟩ t2) (wp_pR (okw (c := c) t1 ⟨hf.2.1, hf.2.2.2.2⟩ t2) (wp_some ⟨rfl, ⟨t1, t2, ?_, ?_, ?_⟩, ((Fr.refl (fun a => a = it) G).sR (Or.inl rfl)).sR (Or.inl rfl), (hw.sR).sR, rfl, rfl⟩))
  · rw [rf (by decide), rs]
  · rw [rf (by decide), rf (by decide)]; exact t4
  · exact t5
theorem TM.keepIt {it : Nat} {G1 : AH} (h : TM γ G x T m en) (hit : hK G it = 17 ∨ hK G it = 18) (hit2 : γ.2 < it) (hc : γ.1 9 ≤ γ.2 ∧ hK G (γ.1 9) = 107 ∧ ∀ i, i < 6 → bx γ G i ≤ γ.2) (hF : Fr (fun a => a = it) G G1) (hw1 : Wf G1) : TM γ G1 x T m en := by
  refine h.keepC hw1 (hF.toC h.at0.2.2.2.2 (fun a _ e => by rw [e]; rcases hit with q | q <;> rw [q] <;> decide)) (fun a e => by rw [e]; exact hit2) hc (fun e => ?_) (fun i hi ti e => ?_)
  · have := h.at0.1
    rw [e] at this
    omega
  · have := (h.ent hi ti).1
    rw [e] at this
    omega
theorem VwOK.toC {G1 : AH} {x' : Nat} (hw : Wf G) (hz : Fr (fun _ => False) (zap G) (zap G1)) (h1 : ∀ y, hK G y = 15 → y ≠ x' → hR G1 74 y = hR G 74 y ∧ hR G1 68 y = hR G 68 y) (h2 : VwOK G x' → VwOK G1 x') : Fc (fun _ => False) G G1 := by
  refine ⟨hz, fun y hy hv => ?_⟩
  by_cases e : y = x'
  · rw [e] at hv ⊢; exact h2 hv
  · refine hv.keep hw (h1 y hy e) (fun a ha _ => ?_)
    have s := hz.2.2.2 a ha (fun q => q)
    exact ⟨(hz.2.2.1 a ha).1, s.2.1 92, s.2.1 105⟩
theorem J29_init {q e c : Nat} (hw : Wf G) (hk : hK G q = c) (hc : c = 17 ∨ c = 18) (hb : γ.2 < q) (hx : hK G x = 15) : wp (f_J29_init γ q x e G) (fun r => hR r 80 q = e ∧ hR r 83 q = x ∧ hI r 82 q = hI r 72 x ∧ Fr (fun a => a = q) G r ∧ Wf r ∧ hS r = hS G ∧ hM r = hM G) := by
  have hf : 80 ∈ cFl c ∧ 81 ∈ cFl c ∧ 82 ∈ cFl c ∧ 83 ∈ cFl c ∧ c < 37 := by rcases hc with e | e <;> rw [e] <;> decide
  unfold f_J29_init
  refine wp_pR (okw hk ⟨hf.2.2.2.1, hf.2.2.2.2⟩ hb) (wp_ifc (by omega) (wp_gI (okf (c := 15) hx (by decide)) (wp_pI ⟨okw (c := c) hk ⟨hf.2.2.1, hf.2.2.2.2⟩ hb, rfl, rfl⟩ (wp_pR (okw (c := c) hk ⟨hf.2.1, hf.2.2.2.2⟩ hb) (wp_pR (okw (c := c) hk ⟨hf.1, hf.2.2.2.2⟩ hb) (wp_some ?_))))))
  refine ⟨?_, ?_, ?_, (((((Fr.refl (fun a => a = q) G).sR (Or.inl rfl)).sI (Or.inl rfl)).sR (Or.inl rfl)).sR (Or.inl rfl)), (((hw.sR).sI).sR).sR, rfl, rfl⟩
  · rw [rs]
  · rw [rf (by decide), rf (by decide)]
    show hR (sR G 83 q x) 83 q = x
    rw [rs]
  · show hI (sI (sR G 83 q x) 82 q (hI (sR G 83 q x) 72 x)) 82 q = hI (sI (sR G 83 q x) 82 q (hI (sR G 83 q x) 72 x)) 72 x
    rw [hI_sI, if_pos ⟨rfl, rfl⟩, hI_sI, if_neg (fun e => absurd e.1 (by decide))]
theorem wp_call {β δ : Type} {x : Option δ} {K : δ → Option β} {P1 : δ → Prop} {Q : β → Prop} (h : wp x P1) (k : ∀ r, P1 r → wp (K r) Q) : wp x (fun r => wp (K r) Q) := wp_mono h k
/-- an iterator over keys (17) or values (18) -/
theorem TM.mkIt {β : Type} {Q : β → Prop} {c : Nat} {K : AH → Option β} (hc : c = 17 ∨ c = 18) (t2 : TM γ G x T m en) (hb : γ.2 < hS G) (hc9 : γ.1 9 ≤ γ.2 ∧ hK G (γ.1 9) = 107 ∧ ∀ i, i < 6 → bx γ G i ≤ γ.2)
    (k : ∀ G1, TIt γ G1 (hS G) x en T 0 c → TM γ G1 x T m en → Fc (fun _ => False) G G1 → Wf G1 → hS G1 = hS G + 1 → hM G1 = hM G + cInst c → wp (K G1) Q) :
    wp ((f_J29_init γ (hS G) x (enN en (nx T 0)) (nO G c (cInst c))).bind K) Q := by
  have w := t2.at0.2.2.2.2
  have a1 := t2.at0.1
  have hne : x ≠ hS G := by have := (w.2 x (by rw [a1]; decide)).2; omega
  have hKi : hK (nO G c (cInst c)) (hS G) = c := by rw [hK_nO, if_pos rfl]
  have hKx : hK (nO G c (cInst c)) x = 15 := by rw [hK_nO, if_neg hne]; exact a1
  refine wp_bind (wp_call (J29_init w.nO hKi hc hb hKx) (fun r hr => ?_))
  obtain ⟨r1, r2, r3, r4, r5, r6, r7⟩ := hr
  have ff : Fr (fun _ => False) G r := ((Fr.refl (fun _ => False) G).nO).trans r4 (fun a e => Or.inr (by rw [e]; exact Nat.le_refl _))
  have fc := ff.toC w (fun _ _ q => q.elim)
  refine k r ⟨?_, hb, r1, r2, r3⟩ (t2.keepC r5 fc (fun _ q => q.elim) hc9 (fun q => q) (fun _ _ _ q => q)) fc r5 r6 r7
  rw [(r4.2.2.1 (hS G) (Nat.lt_succ_self _)).1]
  exact hKi
theorem TM.keyIt {β : Type} {Q : β → Prop} {K : Nat → AH → Option β} {ks : Nat} (t2 : TM γ G x T m en) (hb2 : γ.2 < hS G) (hc : γ.1 9 ≤ γ.2 ∧ hK G (γ.1 9) = 107 ∧ ∀ i, i < 6 → bx γ G i ≤ γ.2) (k1 : hK G ks = 21) (k2 : hR G 92 ks = x)
    (k : ∀ G1, TIt γ G1 (hS G) x en T 0 17 → TM γ G1 x T m en → Fc (fun _ => False) G G1 → Wf G1 → hS G1 = hS G + 1 → hM G1 = hM G + 4 → wp (K (hS G) G1) Q) :
    wp (bR (if hK G ks = 21 then f_J35_iterator γ ks G else none) K) Q := by
  have w2 := t2.at0.2.2.2.2
  have b1 := t2.at0.1
  have lx2 := (w2.2 x (by rw [b1]; decide)).2
  have hn0 : hS G ≠ 0 := by omega
  have hKx : hK (nO G 17 (cInst 17)) x = 15 := by rw [hK_nO, if_neg (by omega)]; exact b1
  have fn : Fr (fun _ => False) G (nO G 17 (cInst 17)) := (Fr.refl _ _).nO
  have tn : TM γ (nO G 17 (cInst 17)) x T m en := t2.keepC w2.nO (fn.toC w2 (fun _ _ q => q.elim)) (fun _ q => q.elim) hc (fun q => q) (fun _ _ _ q => q)
  refine wp_bR (wp_ifc k1 ?_)
  unfold f_J35_iterator
  refine wp_gR (okf k1 (by decide)) ?_
  rw [k2]
  unfold gInst
  rw [if_pos ⟨fun e => by rw [e] at b1; have := w2.2 0 (by rw [b1]; decide); omega, show okC G [15] x from by unfold okC; rw [b1]; decide⟩]
  dsimp only
  rw [if_neg (by decide)]
  refine wp_gR (okf k1 (by decide)) ?_
  rw [k2]
  refine wp_gC (Or.inr (by unfold okC; rw [b1]; decide)) (wp_bR (wp_ifc b1 ?_))
  unfold f_J28_keyIterator
  refine wp_mO ?_
  rw [if_pos hKx, tn.first, bR_some, if_pos hn0]
  unfold f_J31_init
  refine wp_bV (wp_bV ?_)
  rw [if_pos hn0]
  refine wp_of_bind (TM.mkIt (Or.inl rfl) t2 hb2 hc (K := some) (Q := fun r => wp (some r) fun r => wp (some (hS G, r)) fun r => wp (some (r.1, r.2)) fun r => wp (K r.1 r.2) Q) (fun G1 q1 q2 q3 q4 q5 q6 => wp_some (wp_some (wp_some (wp_some (k G1 q1 q2 q3 q4 q5 q6))))))
/-- keySet() -/
theorem TM.keySet (h : TM γ G x T m en) (hv : VwOK G x) (hb : γ.2 < hS G) (hc : γ.1 9 ≤ γ.2 ∧ hK G (γ.1 9) = 107 ∧ ∀ i, i < 6 → bx γ G i ≤ γ.2) : wp (f_J28_keySet γ x G) (fun r => hK r.2 r.1 = 21 ∧ hR r.2 92 r.1 = x ∧ TM γ r.2 x T m en ∧ Fc (fun _ => False) G r.2 ∧ Wf r.2 ∧ hS r.2 ≤ hS G + 1 ∧ hM r.2 ≤ hM G + 1) := by
  obtain ⟨a1, a2, a3, a4, hw⟩ := h.at0
  have lx := (hw.2 x (by rw [a1]; decide)).2
  unfold f_J28_keySet
  refine wp_bR (wp_ifc a1 ?_)
  unfold f_J28_navigableKeySet
  refine wp_gR (okf a1 (by decide)) (wp_ite (fun e0 => ?_) (fun e0 => ?_))
  · have hKi : hK (nO G 21 (cInst 21)) (hS G) = 21 := by rw [hK_nO, if_pos rfl]
    have hKx : hK (nO G 21 (cInst 21)) x = 15 := by rw [hK_nO, if_neg (by omega)]; exact a1
    have hn0 : hS G ≠ 0 := by omega
    refine wp_mO (wp_bV ?_)
    rw [if_pos hn0]
    unfold f_J35_init
    refine wp_bV ?_
    rw [if_pos hn0]
    unfold f_J34_init
    refine wp_bV ?_
    rw [if_pos hn0]
    unfold f_J0_init
    rw [if_pos hn0]
    refine wp_some (wp_some (wp_pR (okw (f := 92) hKi (by decide) hb) ?_))
    have f0 : Fr (fun _ => False) G (sR (nO G 21 (cInst 21)) 92 (hS G) x) := ((Fr.refl _ _).nO).sR (Or.inr (Nat.le_refl _))
    have w0 : Wf (sR (nO G 21 (cInst 21)) 92 (hS G) x) := (hw.nO.sR)
    have v0 : hR (sR (nO G 21 (cInst 21)) 92 (hS G) x) 92 (hS G) = x := rs
    have s0 : hS (sR (nO G 21 (cInst 21)) 92 (hS G) x) = hS G + 1 := rfl
    have m0 : hM (sR (nO G 21 (cInst 21)) 92 (hS G) x) = hM G + 1 := rfl
    have hKi' : hK (sR (nO G 21 (cInst 21)) 92 (hS G) x) (hS G) = 21 := hKi
    have hKx' : hK (sR (nO G 21 (cInst 21)) 92 (hS G) x) x = 15 := hKx
    generalize sR (nO G 21 (cInst 21)) 92 (hS G) x = G2 at *
    refine wp_some (wp_pR (okw (f := 74) (c := 15) hKx' (by decide) a2) (wp_some (wp_some ?_)))
    have fz : Fr (fun _ => False) (zap G) (zap (sR G2 74 x (hS G))) := by
      rw [zap_sR (Or.inr rfl)]; exact f0.zp
    have fc : Fc (fun _ => False) G (sR G2 74 x (hS G)) := by
      refine VwOK.toC (x' := x) hw fz (fun y hy hne => ⟨?_, ?_⟩) (fun hv => ⟨Or.inr ?_, ?_⟩)
      · have ly := (hw.2 y (by rw [hy]; decide)).2
        rw [hR_sR, if_neg (fun e => hne e.2)]
        exact (f0.2.2.2 y ly (fun q => q)).2.1 74
      · have ly := (hw.2 y (by rw [hy]; decide)).2
        rw [hR_sR, if_neg (fun e => hne e.2)]
        exact (f0.2.2.2 y ly (fun q => q)).2.1 68
      · rw [rs, rf (by decide), hK_sR]
        exact ⟨hKi', v0⟩
      · rw [rf (by decide), (f0.2.2.2 x lx (fun q => q)).2.1 68]
        rcases hv.2 with q | q
        · exact Or.inl q
        · have l1 := (hw.2 _ (show hK G (hR G 68 x) ≠ 0 by rw [q.1]; decide)).2
          refine Or.inr ⟨?_, ?_⟩
          · rw [hK_sR, (f0.2.2.1 _ l1).1]; exact q.1
          · rw [rf (by decide), (f0.2.2.2 _ l1 (fun q => q)).2.1 105]; exact q.2
    have w1 : Wf (sR G2 74 x (hS G)) := w0.sR
    have t1 := h.keepC w1 fc (fun _ q => q.elim) hc (fun q => q) (fun _ _ _ q => q)
    have e1 : hK (sR G2 74 x (hS G)) (hS G) = 21 := by rw [hK_sR]; exact hKi'
    have e2 : hR (sR G2 74 x (hS G)) 92 (hS G) = x := by rw [rf (by decide)]; exact v0
    have e3 : hS (sR G2 74 x (hS G)) ≤ hS G + 1 := by rw [hS_sR]; omega
    have e4 : hM (sR G2 74 x (hS G)) ≤ hM G + 1 := by rw [hM_sR]; omega
    exact ⟨e1, e2, t1, fc, w1, e3, e4⟩
  · rcases hv.1 with q | q
    · exact absurd q e0
    · exact wp_some (wp_some ⟨q.1, q.2, h, Fc.refl _ _, hw, Nat.le_succ _, Nat.le_succ _⟩)
end TMi
