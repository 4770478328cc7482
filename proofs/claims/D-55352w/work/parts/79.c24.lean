section C24
variable {γ : GP} {G G0 g : AH} {ga gt : Nat → Nat} {tr tr1 : Nat → List Nat} {et et1 : Nat → Nat → Nat} {S T : St} {hb B : Nat → Prop} {ms : List Ms}
theorem KS.p5k {it : Nat} {g1 : AH} (h : KS γ gt tr1 et1 hb T [] g) (p5 : hR g 15 (gt 5) = γ.1 0) (f1 : Fr (fun a => a = it) g g1) (_ : hK g it < 28) (h10 : hK g it = 10) : hR g1 15 (gt 5) = γ.1 0 := by
  obtain ⟨hw, _, _, _, own, k⟩ := h
  obtain ⟨L5, q1, _⟩ := k.2.2.2.2.2.1
  have k3 := q1.1.1
  rw [(f1.2.2.2 _ (hw.k k3 (by decide)) (fun e => by rw [e, h10] at k3; exact absurd k3 (by decide))).2.1 15]
  exact p5
theorem copyCook {β : Type} {Q : β → Prop} {K : AH → Option β} {i : Nat} (h0 : KS γ ga tr et B S ms G0) (F : Fc (fun a => hS G0 ≤ a) G0 g) (hT : KS γ gt tr1 et1 hb T [] g) (hsep : ∀ a, hb a → hS G0 ≤ a) (hi : i < nk S) (hn : nk T < 6) (hf : sk S i 1 = 0 ∨ sk S i 1 = 1) (hl : (sl S (i + 1)).length ≤ 20) (p5 : hR g 15 (gt 5) = γ.1 0)
    (k : ∀ r gt1, gt1 1 = gt 1 → hR r 15 (gt1 5) = γ.1 0 → KS γ gt1 tr1 et1 hb (addCk T (sk S i) (sl S (i + 1))) [] r → Stq hb g r 8 93 → wp (K r) Q) :
    wp (bR (if hK g (ga (10 + i)) = 16 then f_X6_copy γ (ga (10 + i)) g else none) fun v13 g12 => bI (if hK g12 (gt 2) = 3 then f_J2_add γ (gt 2) v13 g12 else none) fun _ g14 => K g14) Q := by
  have hw0 := h0.1
  have hs := h0.keepAll hT.1 F (fun a q => q)
  have kc := hs.kc hi
  obtain ⟨L, l1, l2, l3⟩ := h0.lines hi
  have nP : ∀ a, a < hS G0 → ¬ hS G0 ≤ a := fun a h => by omega
  have lg := AL.keepC hw0 F l1 (nP _ (hw0.k l1.1 (by decide))) (fun _ => nP _ (hw0.k l1.2.2.2.1 (by decide)))
  have hLm : ∀ a ∈ L, ∃ j, j < L.length ∧ a = nd L j := fun a ha => by
    obtain ⟨j, hj, e⟩ := List.getElem_of_mem ha
    exact ⟨j, hj, by rw [nd_get hj, e]⟩
  have lf : ∀ j, j < L.length → LineF g (nd L j) ((sl S (i + 1)).getD j (0, 0, 0)) := fun j hj => (l3 j hj).1.keep hw0 F (nP _ (l3 j hj).2.2)
  obtain ⟨own, kT, o9⟩ := hT.freeze (L := L) (fun a ha => by
    obtain ⟨j, hj, e⟩ := hLm a ha
    rw [e, (lf j hj).1]
    exact ⟨by decide, by decide, (l3 j hj).2.1, fun q => nP _ (l3 j hj).2.2 (hsep _ q)⟩)
  obtain ⟨hwg, hcg, h3, h4, _⟩ := hT
  have hlt := hcg.lt
  refine wp_bR (wp_ifc kc.1 (wp_mono (X6_copy (skn := sk S i) (b := fun x => ga (30 + 3 * i + x)) hwg hcg ⟨kc.1, kc.2.1, kc.2.2.1, kc.2.2.2.1, kc.2.2.2.2.1, kc.2.2.2.2.2.1, kc.2.2.2.2.2.2.1⟩ lg.1 hf (by omega) (fun x hx => by
    have q := hs.ka hi hx
    exact ⟨q.1, q.2.1, q.2.2.2⟩)) (fun r hr => ?_)))
  obtain ⟨r1, ⟨c1, c2, c3, c4, c5, c6, c7⟩, y1, y2, y3, y4, y5, y6, y7⟩ := hr
  rw [r1]
  have fc := y4.toC hwg (fun _ _ q => q.elim)
  have hcr := hcg.keep fc (fun _ q => q.elim)
  have k1 : Kt γ r.2 own gt tr1 et1 hb T [] := kT.keepAll hwg hcg y5 fc (fun _ q => q.elim)
  have own0 : ∀ a, hS g ≤ a → own a = 0 := kT.1.2.1
  have le0 : γ.1 0 ≤ γ.2 := hcg.le (by decide)
  have k2 := KS.k2 ⟨y5, hcr, h3, fun a q => h4 a (Nat.le_trans y4.1 q), own, k1⟩
  refine wp_bI (wp_ifc k2.1 (wp_mono (Kt.addCook (c := hS g) (l := hS g + 1) (a := fun b => hS g + 2 + b) (skn := sk S i) (lln := sl S (i + 1)) (LL := L) k1 y5 hcr (fun b q => h4 b (Nat.le_trans y4.1 q)) hn ⟨c1, hlt, own0 _ (Nat.le_refl _), h4 _ (Nat.le_refl _)⟩ ⟨c2, c3, c4, c5, c6, c7⟩
    ⟨y1, own0 _ (Nat.le_succ _), h4 _ (Nat.le_succ _), fun q => ?_⟩ ⟨l2, fun j hj => ?_⟩ (fun b hb2 => ?_) ⟨by omega, by omega, by omega⟩) (fun r2 hr2 => ?_)))
  · rcases y2 with e | e
    · rw [e] at q; omega
    · exact ⟨own0 _ e, h4 _ e⟩
  · have hj2 : j < L.length := by omega
    obtain ⟨q1, q2, q3, q4⟩ := (lf j hj2).keep hwg fc (fun q => q)
    exact ⟨q1, o9 _ (nd_mem hj2), q2, q3, q4⟩
  · obtain ⟨z1, z2, z3⟩ := y3 b hb2
    exact ⟨z1, z2, by omega, own0 _ (by omega), h4 _ (by omega), z3⟩
  · obtain ⟨own1, w1, w2, w3, w4, w5, w6⟩ := hr2
    have base : ∀ a, own a = 2 → hb a := fun a e => k1.1.2.2.1 a (by rw [e]; decide) (by rw [e]; decide)
    have fh : Fc hb r.2 r2.2 := w2.mono (fun a _ q => base a q)
    have e1 : gaCk gt (nk T) (hS g) (hS g + 1) (fun b => hS g + 2 + b) 1 = gt 1 := by
      unfold gaCk
      rw [if_neg (by omega), if_neg (by omega), if_neg (by omega)]
    have e5 : gaCk gt (nk T) (hS g) (hS g + 1) (fun b => hS g + 2 + b) 5 = gt 5 := by
      unfold gaCk
      rw [if_neg (by omega), if_neg (by omega), if_neg (by omega)]
    have o5 : own (gt 5) = 5 ∧ gt 5 < hS g := by
      obtain ⟨L5, q1, _⟩ := kT.2.2.2.2.2.1
      exact ⟨q1.2.1, hwg.k q1.1.1 (by decide)⟩
    have h15 : hR r2.2 15 (gt 5) = γ.1 0 := by
      have := y4.1
      rw [w2.rR (by omega) (by rw [o5.1]; decide) (by decide), fc.rR o5.2 (fun q => q) (by decide)]; exact p5
    exact k _ _ e1 (by rw [e5]; exact h15) ⟨w3, hcr.keep fh h3, h3, fun a q => h4 a (Nat.le_trans y4.1 (Nat.le_trans fh.le q)), own1, w1⟩ ⟨(fc.mono (fun _ _ q => q.elim)).trans fh hwg (fun _ q => Or.inl q), w3, by omega, by omega⟩
theorem copyLoop1 {Q : Nat × AH → Prop} {K : AH → Option (Nat × AH)} {q it : Nat} (h0 : KS γ ga tr et B S ms G0) (ho : ∀ i, i < nk S → (sk S i 1 = 0 ∨ sk S i 1 = 1) ∧ (sl S (i + 1)).length ≤ 20) (hsep : ∀ a, hb a → hS G0 ≤ a) (hit : ¬ hb it) (hit0 : hS G0 ≤ it) (n : Nat) :
    ∀ (i : Nat) (g : AH) (gt : Nat → Nat), nk S - i < n → i ≤ nk S → Fc (fun a => hS G0 ≤ a) G0 g → KS γ gt tr1 et1 hb (partS S i 0) [] g → AIt γ g it (ga 2) i → gt 1 = q → hR g 15 (gt 5) = γ.1 0 →
    (∀ r gt1, gt1 1 = q → hR r 15 (gt1 5) = γ.1 0 → KS γ gt1 tr1 et1 hb (partS S (nk S) 0) [] r → Fc (fun a => hS G0 ≤ a) G0 r → hS r ≤ hS g + 8 * (nk S - i) → hM r ≤ hM g + 93 * (nk S - i) → wp (K r) Q) →
    wp (f_X2_copy_L18 γ (ga 1) q it K n g) Q := by
  have hn6 := h0.bnd
  induction n with
  | zero => intro i g gt hk; exact absurd hk (Nat.not_lt_zero _)
  | succ n ih =>
    intro i g gt hn hi F hT t e1 p5 k
    unfold f_X2_copy_L18
    have hs := h0.keepAll hT.1 F (fun a q => q)
    refine listStep (c := 16) hT.1 hs.k2 t (by rw [len2]; exact hi) (by rw [len2]; omega) hs.all16 (fun e => ?_) (fun q2 G1 t1 a1 f1 w1 s1 m1 => ?_)
    · rw [len2] at e
      rw [e] at hT
      exact k g gt e1 p5 hT F (by omega) (by omega)
    · rw [len2] at q2
      rw [KS.nd2 q2]
      have hkt : hK g it < 28 ∧ hK g it ≠ 15 ∧ hK g it ≠ 21 ∧ hK g it ≠ 26 := by rw [t.1]; decide
      have hT1 := hT.keepIt hit hkt t.2.1 w1 f1
      have F1 : Fc (fun a => hS G0 ≤ a) G0 G1 := F.trans (f1.toC hT.1 (fun a _ e => by rw [e]; exact hkt.2)) h0.1 (fun a e => Or.inl (by rw [e]; exact hit0))
      have kk := hT1.k1
      rw [e1] at kk
      rw [gR_ok (okf kk.1 (by decide)), kk.2.1]
      refine copyCook h0 F1 hT1 hsep q2 (by show i < 6; omega) (ho i q2).1 (ho i q2).2 (hT.p5k p5 f1 hkt.1 t.1) (fun r gt1 e2 p52 hT2 s2 => ?_)
      rw [show addCk (partS S i 0) (sk S i) (sl S (i + 1)) = partS S (i + 1) 0 from part_ck] at hT2
      have F2 : Fc (fun a => hS G0 ≤ a) G0 r := F1.trans s2.1 h0.1 (fun a e => Or.inl (hsep a e))
      have t2 : AIt γ r it (ga 2) (i + 1) := t1.keepF a1 s2.1 w1 hit (fun e => by
        have l : ga 2 < hS G0 := h0.1.k h0.k2.1 (by decide)
        have := hsep _ e
        omega)
      have s21 := s2.2.2.1
      have s22 := s2.2.2.2
      exact ih (i + 1) r gt1 (by omega) (by omega) F2 hT2 t2 (by rw [e2]; exact e1) p52 (fun r3 gt3 e3 p53 h3 f3 s3 m3 => k r3 gt3 e3 p53 h3 f3 (by omega) (by omega))
end C24
