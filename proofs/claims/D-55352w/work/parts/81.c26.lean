section C26
variable {γ : GP} {G G0 g g1 : AH} {ga gt : Nat → Nat} {tr tr1 : Nat → List Nat} {et et1 : Nat → Nat → Nat} {S T : St} {hb B : Nat → Prop} {ms : List Ms}
theorem setInt {q f c : Nat} {v : Int32} {β : Type} {Q : β → Prop} {K : AH → Option β} (hw : Wf G) (hk : hK G q = c) (hf : f ∈ cFl c ∧ c < 37) (hty : narrow (fTy f) (.int v) = .int v ∧ fits (fTy f) (.int v) = true) (hq : γ.2 < q) (k : ∀ r, Fr (fun a => a = q) G r → Wf r → hS r = hS G → hM r = hM G → hI r f q = v → (∀ g, g ≠ f → hI r g q = hI G g q) → (∀ g, hR r g q = hR G g q) → wp (K r) Q) : wp (pI γ G q f v K) Q :=
  wp_pI ⟨okw hk hf hq, hty⟩ (k _ ((Fr.refl _ _).sI (Or.inl rfl)) hw.sI rfl rfl (by rw [hI_sI, if_pos ⟨rfl, rfl⟩]) (fun g hg => by rw [hI_sI, if_neg (fun e => hg e.1)]) (fun _ => rfl))
theorem NewT.keepQ {j q1 x1 lo k : Nat} {Tn : List Nat} {mn en : Nat → Nat} (N : NewT γ S j q1 x1 lo g k Tn mn en) (hw : Wf g) (hc : Cn γ g) (hw1 : Wf g1) (hF : Fr (fun a => a = q1) g g1) (h87 : hR g1 87 q1 = hR g 87 q1) : NewT γ S j q1 x1 lo g1 k Tn mn en := by
  obtain ⟨a1, a2, a3, a4, a5, a6, a7, a8, a9⟩ := N
  have fc : Fc (fun a => a = q1) g g1 := hF.toC hw (fun a _ e => by rw [e, a1]; decide)
  have k15 := a5.at0.1
  refine ⟨by rw [fc.kind (hw.k a1 (by decide))]; exact a1, a2, a3, by rw [h87]; exact a4, a5.keepC hw1 fc (fun a e => by rw [e]; exact a2) hc.b9 (fun e => by rw [e, a1] at k15; exact absurd k15 (by decide)) (fun i hi ti e => ?_), fc.2 _ k15 a6, a7, a8, fun d hd ht => ⟨(a9 d hd ht).1.keep hw fc (fun e => ?_), (a9 d hd ht).2⟩⟩
  · have := (a5.ent hi ti).1
    rw [e, a1] at this
    exact absurd this (by decide)
  · have := (a9 d hd ht).1.1
    rw [e, a1] at this
    exact absurd this (by decide)
theorem X7_copy {j : Nat} (h0 : KS γ ga tr et B S ms g) (hj : j < nc S) :
    wp (f_X7_copy γ (ga (60 + j)) g) (fun r => r.1 = hS g ∧ (∃ x1 Tn mn en, NewT γ S j (hS g) x1 (hS g) r.2 6 Tn mn en) ∧ (hI r.2 88 (hS g) = sc S j 0 ∧ hI r.2 89 (hS g) = sc S j 1 ∧ hI r.2 90 (hS g) = sc S j 2 ∧ hI r.2 91 (hS g) = Int32.ofNat (sv S j)) ∧ Fc (fun a => hS g ≤ a) g r.2 ∧ Wf r.2 ∧ hS r.2 ≤ hS g + 16 ∧ hM r.2 ≤ hM g + 79) := by
  have h00 := h0
  obtain ⟨hw, hc, h3, h4, own, k⟩ := h0
  obtain ⟨n1, n2, n3, n4⟩ := newObj (c := 20) (n := cInst 20) hw
  have hlt := hc.lt
  have cn := hc.keep (n1.toC hw (fun _ _ q => q.elim)) (fun _ q => q.elim)
  unfold f_X7_copy
  refine wp_mO (wp_bV ?_)
  rw [if_pos n4]
  refine wp_mono (X7_init n2 cn n3 hlt (by rw [hI_nO, if_pos rfl]) (by rw [hI_nO, if_pos rfl])) (fun r hr => ?_)
  obtain ⟨⟨x1, x2, x3, x4, x5⟩, y1, y2, y3, y4, y5, y6⟩ := hr
  rw [hS_nO] at x1 y1 y2 y5
  rw [hM_nO, show cInst 20 = 5 from rfl] at y6
  have f1 : Fr (fun _ => False) g r := n1.trans y3 (fun b e => Or.inr (by rw [e]; exact Nat.le_refl _))
  have fc1 := f1.toC hw (fun _ _ q => q.elim)
  have hs1 := h00.keepAll y4 fc1 (fun _ q => q.elim)
  have kq : hK r (hS g) = 20 := by rw [(y3.2.2.1 (hS g) (Nat.lt_succ_self _)).1]; exact n3
  have kc := hs1.ko hj
  rw [gR_ok (okf kc.1 (by decide)), kc.2.2.2.2.2.1]
  obtain ⟨t1, t2, t3⟩ := hs1.kt hj
  refine wp_bR (wp_ifc t1.at0.1 (wp_mono (t1.keySet t2 hs1.2.1.lt hs1.2.1.b9) (fun r2 hr2 => ?_)))
  obtain ⟨u1, u2, u3, u4, u5, u6, u7⟩ := hr2
  have fc2 : Fc (fun _ => False) g r2.2 := fc1.trans u4 hw (fun _ q => q.elim)
  have hs2 := h00.keepAll u5 fc2 (fun _ q => q.elim)
  refine TM.keyIt u3 hs2.2.1.lt hs2.2.1.b9 u1 u2 (fun G2 w1 w2 w3 w4 w5 w6 => ?_)
  have fc3 : Fc (fun _ => False) g G2 := fc2.trans w3 hw (fun _ q => q.elim)
  have le2 := u4.le
  have le3 := w3.le
  have fc13 : Fc (fun _ => False) r G2 := u4.trans w3 y4 (fun _ q => q.elim)
  have hs3 := h00.keepAll w4 fc3 (fun _ q => q.elim)
  have lq : hS g < hS r := by omega
  have kq3 : hK G2 (hS g) = 20 := by rw [fc13.kind lq]; exact kq
  have T0 : ∀ i, i < 6 → th (List.replicate 25 0) i = false := by decide
  have N0 : NewT γ S j (hS g) (hS g + 1) (hS g) G2 0 (List.replicate 25 0) (fun _ => 0) (fun _ => 0) :=
    ⟨kq3, hlt, Nat.le_refl _, by rw [fc13.rR lq (fun q => q) (by decide)]; exact x1, y1.keepC w4 fc13 (fun _ q => q.elim) hs1.2.1.b9 (fun q => q) (fun _ _ _ q => q), fc13.2 _ y1.at0.1 y2, Nat.le_succ _, fun d hd => by rw [T0 d hd]; exact (decide_eq_false (fun w => by omega)).symm, fun d hd ht => by rw [T0 d hd] at ht; exact absurd ht (by decide)⟩
  refine copyDishes (G0 := g) h00 hj (Nat.le_refl _) (by omega) (by omega) FU 0 G2 _ _ _ (by show 6 - 0 < 4294967296; decide) (fc3.mono (fun _ _ q => q.elim)) w4 (by omega) w1 N0 (fun r5 Tn mn en N5 F5 w5' s5 m5 => ?_)
  have hks : (ks (tr j) 0).length ≤ 6 := by
    have := List.length_filter_le (fun c => decide (0 ≤ c) && th (tr j) c) (List.range 6)
    rw [List.length_range] at this
    exact this
  have src : ∀ {gg : AH}, Fc (fun a => hS g ≤ a) g gg → Wf gg → KS γ ga tr et B S ms gg := fun {gg} ff ww => h00.keepAll ww ff (fun a q => q)
  have stepF : ∀ {ga1 gb1 : AH}, Fc (fun a => hS g ≤ a) g ga1 → Wf ga1 → hK ga1 (hS g) = 20 → Fr (fun a => a = hS g) ga1 gb1 → Fc (fun a => hS g ≤ a) g gb1 := fun {ga1 gb1} ff ww kk fr => ff.trans (fr.toC ww (fun a _ e => by rw [e, kk]; decide)) hw (fun a e => Or.inl (by rw [e]; exact Nat.le_refl _))
  have h5 := src F5 w5'
  have ko5 := h5.ko hj
  rw [gI_ok (okf ko5.1 (by decide)), ko5.2.1]
  refine setInt w5' N5.1 (by decide) ⟨rfl, rfl⟩ hlt (fun r6 f6 w6' s6 m6 i6 j6 e6 => ?_)
  have N6 := N5.keepQ w5' h5.2.1 w6' f6 (e6 87)
  have F6 := stepF F5 w5' N5.1 f6
  have h6 := src F6 w6'
  have ko6 := h6.ko hj
  rw [gI_ok (okf ko6.1 (by decide)), ko6.2.2.1]
  refine setInt w6' N6.1 (by decide) ⟨rfl, rfl⟩ hlt (fun r7 f7 w7' s7 m7 i7 j7 e7 => ?_)
  have N7 := N6.keepQ w6' h6.2.1 w7' f7 (e7 87)
  have F7 := stepF F6 w6' N6.1 f7
  have h7 := src F7 w7'
  have ko7 := h7.ko hj
  rw [gI_ok (okf ko7.1 (by decide)), ko7.2.2.2.1]
  refine setInt w7' N7.1 (by decide) ⟨rfl, rfl⟩ hlt (fun r8 f8 w8' s8 m8 i8 j8 e8 => ?_)
  have N8 := N7.keepQ w7' h7.2.1 w8' f8 (e8 87)
  have F8 := stepF F7 w7' N7.1 f8
  have h8 := src F8 w8'
  have ko8 := h8.ko hj
  rw [gI_ok (okf ko8.1 (by decide)), ko8.2.2.2.2.1]
  refine setInt w8' N8.1 (by decide) ⟨rfl, rfl⟩ hlt (fun r9 f9 w9' s9 m9 i9 j9 e9 => wp_some ?_)
  have N9 := N8.keepQ w8' h8.2.1 w9' f9 (e9 87)
  have F9 := stepF F8 w8' N8.1 f9
  refine ⟨rfl, ⟨_, Tn, mn, en, N9⟩, ⟨?_, ?_, ?_, i9⟩, F9, w9', ?_, ?_⟩
  · show hI r9 88 (hS g) = _
    rw [j9 88 (by decide), j8 88 (by decide), j7 88 (by decide)]; exact i6
  · show hI r9 89 (hS g) = _
    rw [j9 89 (by decide), j8 89 (by decide)]; exact i7
  · show hI r9 90 (hS g) = _
    rw [j9 90 (by decide)]; exact i8
  · show hS r9 ≤ _
    omega
  · show hM r9 ≤ _
    omega
theorem copyCourse {β : Type} {Q : β → Prop} {K : AH → Option β} {j : Nat} (hs : KS γ ga tr et B S ms g) (hT : KS γ gt tr1 et1 hb T [] g) (hj : j < nc S) (hn : nc T < 8) (p5 : hR g 15 (gt 5) = γ.1 0)
    (k : ∀ r gt1 tr2 et2, gt1 1 = gt 1 → hR r 15 (gt1 5) = γ.1 0 → KS γ gt1 tr2 et2 hb (addCr T (sc S j) (sv S j)) [] r → Stq hb g r 17 105 → wp (K r) Q) :
    wp (bR (if hK g (ga (60 + j)) = 20 then f_X7_copy γ (ga (60 + j)) g else none) fun v13 g12 => bI (if hK g12 (gt 3) = 3 then f_J2_add γ (gt 3) v13 g12 else none) fun _ g14 => K g14) Q := by
  obtain ⟨hwg, hcg, h3, h4, own, kT⟩ := hT
  have hlt := hcg.lt
  refine wp_bR (wp_ifc (hs.ko hj).1 (wp_mono (X7_copy hs hj) (fun r hr => ?_)))
  obtain ⟨r1, ⟨x1, Tn, mn, en, N⟩, ⟨i1, i2, i3, i4⟩, F, w, s, m⟩ := hr
  rw [r1]
  obtain ⟨a1, a2, a3, a4, a5, a6, a7, a8, a9⟩ := N
  have own0 : ∀ a, hS g ≤ a → own a = 0 := kT.1.2.1
  have k1 : Kt γ r.2 own gt tr1 et1 hb T [] := kT.keepAll hwg hcg w F (fun a q => ⟨by have q1 : hS g ≤ a := q; omega, own0 a q⟩)
  have hcr := hcg.keep F (fun a q => by have q1 : hS g ≤ a := q; omega)
  have hle := F.le
  have k3 := KS.k3 ⟨w, hcr, h3, fun a q => h4 a (Nat.le_trans hle q), own, k1⟩
  refine wp_bI (wp_ifc k3.1 (wp_mono (Kt.addCourse (c := hS g) (x := x1) (vt := sv S j) (T := Tn) (m := mn) (e := en) (crn := sc S j) k1 w hcr (fun b q => h4 b (Nat.le_trans hle q)) hn ⟨a1, hlt, own0 _ (Nat.le_refl _), h4 _ (Nat.le_refl _)⟩ ⟨i1, i2, i3, i4, a4⟩
    ⟨a5, a6, own0 _ a7, h4 _ a7⟩ (fun d hd ht => ?_) (fun d hd => ?_) (fun d hd ht => (a9 d hd ht).1)) (fun r2 hr2 => ?_)))
  · obtain ⟨z1, z2, z3⟩ := a9 d hd ht
    exact ⟨own0 _ z3, h4 _ z3, own0 _ z2, h4 _ z2⟩
  · rw [a8 d hd]
    exact decide_eq_decide.mpr ⟨fun q => q.2, fun q => ⟨hd, q⟩⟩
  · obtain ⟨own1, w1, w2, w3, w4, w5, w6⟩ := hr2
    have base : ∀ a, own a = 3 → hb a := fun a e => k1.1.2.2.1 a (by rw [e]; decide) (by rw [e]; decide)
    have fh : Fc hb r.2 r2.2 := w2.mono (fun a _ q => base a q)
    have e1 : gaCr gt (nc T) (hS g) x1 mn 1 = gt 1 := by
      unfold gaCr
      rw [if_neg (by omega), if_neg (by omega), if_neg (by omega)]
    have e5 : gaCr gt (nc T) (hS g) x1 mn 5 = gt 5 := by
      unfold gaCr
      rw [if_neg (by omega), if_neg (by omega), if_neg (by omega)]
    have o5 : own (gt 5) = 5 ∧ gt 5 < hS g := by
      obtain ⟨L5, q1, _⟩ := kT.2.2.2.2.2.1
      exact ⟨q1.2.1, hwg.k q1.1.1 (by decide)⟩
    have h15 : hR r2.2 15 (gt 5) = γ.1 0 := by
      rw [w2.rR (by omega) (by rw [o5.1]; decide) (by decide), F.rR o5.2 (by omega) (by decide)]; exact p5
    exact k _ _ _ _ e1 (by rw [e5]; exact h15) ⟨w3, hcr.keep fh h3, h3, fun a q => h4 a (Nat.le_trans hle (Nat.le_trans fh.le q)), own1, w1⟩ ⟨(F.mono (fun a _ q => h4 a q)).trans fh hwg (fun _ q => Or.inl q), w3, by omega, by omega⟩
theorem copyLoop2 {Q : Nat × AH → Prop} {K : AH → Option (Nat × AH)} {q it i : Nat} (h0 : KS γ ga tr et B S ms G0) (hsep : ∀ a, hb a → hS G0 ≤ a) (hit : ¬ hb it) (hit0 : hS G0 ≤ it) (n : Nat) :
    ∀ (j : Nat) (g : AH) (gt : Nat → Nat) (tr1 : Nat → List Nat) (et1 : Nat → Nat → Nat), nc S - j < n → j ≤ nc S → Fc (fun a => hS G0 ≤ a) G0 g → KS γ gt tr1 et1 hb (partS S i j) [] g → AIt γ g it (ga 3) j → gt 1 = q → hR g 15 (gt 5) = γ.1 0 →
    (∀ r gt1 tr2 et2, gt1 1 = q → hR r 15 (gt1 5) = γ.1 0 → KS γ gt1 tr2 et2 hb (partS S i (nc S)) [] r → Fc (fun a => hS G0 ≤ a) G0 r → hS r ≤ hS g + 17 * (nc S - j) → hM r ≤ hM g + 105 * (nc S - j) → wp (K r) Q) →
    wp (f_X2_copy_L64 γ (ga 1) q it K n g) Q := by
  have hn6 := h0.bnd
  induction n with
  | zero => intro j g gt tr1 et1 hk; exact absurd hk (Nat.not_lt_zero _)
  | succ n ih =>
    intro j g gt tr1 et1 hn hj F hT t e1 p5 k
    unfold f_X2_copy_L64
    have hs := h0.keepAll hT.1 F (fun a q => q)
    refine listStep (c := 20) hT.1 hs.k3 t (by rw [len3]; exact hj) (by rw [len3]; omega) hs.all20 (fun e => ?_) (fun q2 G1 t1 a1 f1 w1 s1 m1 => ?_)
    · rw [len3] at e
      rw [e] at hT
      exact k g gt tr1 et1 e1 p5 hT F (by omega) (by omega)
    · rw [len3] at q2
      rw [KS.nd3 q2]
      have hkt : hK g it < 28 ∧ hK g it ≠ 15 ∧ hK g it ≠ 21 ∧ hK g it ≠ 26 := by rw [t.1]; decide
      have hT1 := hT.keepIt hit hkt t.2.1 w1 f1
      have F1 : Fc (fun a => hS G0 ≤ a) G0 G1 := F.trans (f1.toC hT.1 (fun a _ e => by rw [e]; exact hkt.2)) h0.1 (fun a e => Or.inl (by rw [e]; exact hit0))
      have hs1 := h0.keepAll w1 F1 (fun a q => q)
      have kk := hT1.k1
      rw [e1] at kk
      rw [gR_ok (okf kk.1 (by decide)), kk.2.2.1]
      refine copyCourse hs1 hT1 q2 (by show j < 8; omega) (hT.p5k p5 f1 hkt.1 t.1) (fun r gt1 tr2 et2 e2 p52 hT2 s2 => ?_)
      rw [show addCr (partS S i j) (sc S j) (sv S j) = partS S i (j + 1) from part_cr] at hT2
      have F2 : Fc (fun a => hS G0 ≤ a) G0 r := F1.trans s2.1 h0.1 (fun a e => Or.inl (hsep a e))
      have t2 : AIt γ r it (ga 3) (j + 1) := t1.keepF a1 s2.1 w1 hit (fun e => by
        have l : ga 3 < hS G0 := h0.1.k h0.k3.1 (by decide)
        have := hsep _ e
        omega)
      have s21 := s2.2.2.1
      have s22 := s2.2.2.2
      exact ih (j + 1) r gt1 tr2 et2 (by omega) (by omega) F2 hT2 t2 (by rw [e2]; exact e1) p52 (fun r3 gt3 tr3 et3 e3 p53 h3 f3 s3 m3 => k r3 gt3 tr3 et3 e3 p53 h3 f3 (by omega) (by omega))
end C26
