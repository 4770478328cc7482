/-- a course being copied: the dishes for cooks below k stand in the map x1 -/
def NewT (γ : GP) (S : St) (j q1 x1 lo : Nat) (g : AH) (k : Nat) (Tn : List Nat) (mn en : Nat → Nat) : Prop :=
  hK g q1 = 20 ∧ γ.2 < q1 ∧ lo ≤ q1 ∧ hR g 87 q1 = x1 ∧ TM γ g x1 Tn mn en ∧ VwOK g x1 ∧ lo ≤ x1 ∧ (∀ d, d < 6 → th Tn d = decide (d < k ∧ isD S j d)) ∧ ∀ d, d < 6 → th Tn d = true → DishF γ g (mn d) (sc S j (4 + 4 * d)) (sc S j (4 + 4 * d + 1)) (sc S j (4 + 4 * d + 2)) (sc S j (4 + 4 * d + 3)) ∧ lo ≤ mn d ∧ lo ≤ en d
section C25
variable {γ : GP} {G G0 g g1 : AH} {ga gt : Nat → Nat} {tr tr1 : Nat → List Nat} {et et1 : Nat → Nat → Nat} {S T : St} {hb B : Nat → Prop} {ms : List Ms}
theorem DishF.keep {P : Nat → Prop} {a : Nat} {v0 v1 v2 v3 : Int32} (h : DishF γ g a v0 v1 v2 v3) (hw : Wf g) (hF : Fc P g g1) (hn : ¬ P a) : DishF γ g1 a v0 v1 v2 v3 := by
  have q := hw.k h.1 (by decide)
  obtain ⟨h1, h2, h3, h4, h5, h6, h7⟩ := h
  exact ⟨by rw [hF.kind q]; exact h1, h2, by rw [hF.rI q hn]; exact h3, by rw [hF.rI q hn]; exact h4, by rw [hF.rR q hn (by decide)]; exact h5, by rw [hF.rI q hn]; exact h6, h7⟩
theorem X8_copy {s : Nat} {v0 v1 v2 v3 : Int32} (hw : Wf g) (hc : Cn γ g) (hs : DishF γ g s v0 v1 v2 v3) : wp (f_X8_copy γ s g) (fun r => r.1 = hS g ∧ DishF γ r.2 (hS g) v0 v1 v2 v3 ∧ Fr (fun _ => False) g r.2 ∧ Wf r.2 ∧ hS r.2 = hS g + 1 ∧ hM r.2 = hM g + 4) := by
  obtain ⟨h1, h2, h3, h4, h5, h6, h7⟩ := hs
  obtain ⟨n1, n2, n3, n4⟩ := newObj (c := 22) (n := cInst 22) hw
  have ls := hw.k h1 (by decide)
  have hlt := hc.lt
  have fcn := n1.toC hw (fun _ _ q => q.elim)
  unfold f_X8_copy
  refine wp_mO ?_
  have ks : hK (nO g 22 (cInst 22)) s = 22 := by rw [fcn.kind ls]; exact h1
  rw [gI_ok (okf ks (by decide)), fcn.rI ls (fun q => q), gI_ok (okf ks (by decide)), fcn.rI ls (fun q => q)]
  refine wp_bV ?_
  rw [if_pos n4]
  refine wp_mono (X8_init n2 n3 hlt) (fun r hr => ?_)
  obtain ⟨y1, y2, y3, y4, y5⟩ := hr
  rw [hS_nO] at y4
  rw [hM_nO, show cInst 22 = 4 from rfl] at y5
  have f1 : Fr (fun _ => False) g r := n1.trans y2 (fun b e => Or.inr (by rw [e]; exact Nat.le_refl _))
  have fc1 := f1.toC hw (fun _ _ q => q.elim)
  have ks2 : hK r s = 22 := by rw [fc1.kind ls]; exact h1
  obtain ⟨d1, d2, d3, d4, d5, d6, d7⟩ := y1
  rw [gR_ok (okf ks2 (by decide)), fc1.rR ls (fun q => q) (by decide), h5]
  refine wp_pR (okw d1 (by decide) hlt) ?_
  have ks3 : hK (sR r 95 (hS g) (howA γ v2)) s = 22 := ks2
  rw [gI_ok (okf ks3 (by decide)), show hI (sR r 95 (hS g) (howA γ v2)) 96 s = v3 from (by show hI r 96 s = v3; rw [fc1.rI ls (fun q => q)]; exact h6)]
  refine wp_pI ⟨okw (c := 22) d1 (by decide) hlt, rfl, rfl⟩ (wp_some ⟨rfl, ⟨d1, hlt, ?_, ?_, ?_, ?_, h7⟩, (f1.sR (Or.inr (Nat.le_refl _))).sI (Or.inr (Nat.le_refl _)), (y3.sR).sI, y4, y5⟩)
  · rw [hI_sI, if_neg (fun e => absurd e.1 (by decide))]
    show hI r 93 (hS g) + 1 = v0
    rw [d3]; exact h3
  · rw [hI_sI, if_neg (fun e => absurd e.1 (by decide))]
    show hI r 94 (hS g) = v1
    rw [d4]; exact h4
  · show hR (sR r 95 (hS g) (howA γ v2)) 95 (hS g) = _
    rw [rs]
  · rw [hI_sI, if_pos ⟨rfl, rfl⟩]
theorem copyDishes {Q : Nat × AH → Prop} {K : AH → Option (Nat × AH)} {j q1 x1 it lo : Nat} (h0 : KS γ ga tr et B S ms G0) (hj : j < nc S) (hlo : hS G0 ≤ lo) (hit0 : hS G0 ≤ it) (hiq : it ≠ q1) (n : Nat) :
    ∀ (k : Nat) (g : AH) (Tn : List Nat) (mn en : Nat → Nat), 6 - k < n → Fc (fun a => hS G0 ≤ a) G0 g → Wf g → lo ≤ hS g → TIt γ g it (ga (70 + j)) (et j) (tr j) k 17 → NewT γ S j q1 x1 lo g k Tn mn en →
    (∀ r Tn mn en, NewT γ S j q1 x1 lo r 6 Tn mn en → Fc (fun a => hS G0 ≤ a) G0 r → Wf r → hS r ≤ hS g + 2 * (ks (tr j) k).length → hM r ≤ hM g + 10 * (ks (tr j) k).length → wp (K r) Q) →
    wp (f_X7_copy_L21 γ (ga (60 + j)) q1 it K n g) Q := by
  have hw0 := h0.1
  induction n with
  | zero => intro k g Tn mn en hk; exact absurd hk (Nat.not_lt_zero _)
  | succ n ih =>
    intro k g Tn mn en hn F hw hlg t N kk
    have hs := h0.keepAll hw F (fun a q => q)
    have hT := (hs.kt hj).1
    have thE := (hs.kt hj).2.2
    unfold f_X7_copy_L21
    refine keyStep hT hs.2.1.b9 t (fun q0 => ?_) (fun q G1 t1 tm1 f1 w1 s1 m1 => ?_)
    · refine kk g Tn mn en ?_ F hw (Nat.le_add_right _ _) (Nat.le_add_right _ _)
      obtain ⟨a1, a2, a3, a4, a5, a6, a7, a8, a9⟩ := N
      refine ⟨a1, a2, a3, a4, a5, a6, a7, fun d hd => ?_, a9⟩
      rw [a8 d hd]
      refine decide_eq_decide.mpr ⟨fun w => ⟨hd, w.2⟩, fun w => ⟨?_, w.2⟩⟩
      rcases Nat.lt_or_ge d k with l | l
      · exact l
      · have := nx_min (T := tr j) l hd (by rw [thE d hd]; exact decide_eq_true w.2)
        omega
    · have hkt : hK g it < 28 ∧ hK g it ≠ 15 ∧ hK g it ≠ 21 ∧ hK g it ≠ 26 := by rw [t.1]; decide
      have fcI : Fc (fun a => a = it) g G1 := f1.toC hw (fun a _ e => by rw [e]; exact hkt.2)
      have F1 : Fc (fun a => hS G0 ≤ a) G0 G1 := F.trans fcI hw0 (fun a e => Or.inl (by rw [e]; exact hit0))
      have hs1 := h0.keepAll w1 F1 (fun a q => q)
      obtain ⟨a1, a2, a3, a4, a5, a6, a7, a8, a9⟩ := N
      generalize hd0 : nx (tr j) k = d at *
      have hxD : isD S j d := of_decide_eq_true (by rw [← thE d q, ← hd0]; exact (nx_lt (by rw [hd0]; exact q)).1)
      have hkd : k ≤ d := by rw [← hd0]; exact (nx_lt (by rw [hd0]; exact q)).2
      have ek : ks (tr j) k = d :: ks (tr j) (d + 1) := by rw [← hd0]; exact ks_cons (by rw [hd0]; exact q)
      have hcg := hs.2.1
      -- the new map behind the step
      have k5 : hK g x1 = 15 := a5.at0.1
      have nxi : x1 ≠ it := fun e => by rw [e, t.1] at k5; exact absurd k5 (by decide)
      have tm5 := a5.keepC w1 fcI (fun a e => by rw [e]; exact t.2.1) hcg.b9 nxi (fun i hi ti e => by
        have := (a5.ent hi ti).1
        rw [e, t.1] at this
        exact absurd this (by decide))
      have k1 : hK G1 q1 = 20 := by rw [fcI.kind (hw.k a1 (by decide))]; exact a1
      have r87 : hR G1 87 q1 = x1 := by rw [fcI.rR (hw.k a1 (by decide)) (fun e => hiq e.symm) (by decide)]; exact a4
      have v5 : VwOK G1 x1 := fcI.2 _ k5 a6
      have kc := hs1.ko hj
      rw [gR_ok (okf k1 (by decide)), r87, hs1.2.1.valueOf (by omega), bR_some, gR_ok (okf kc.1 (by decide)), kc.2.2.2.2.2.1, hs1.2.1.valueOf (by omega), bR_some, if_pos (hs1.kt hj).1.at0.1, (hs1.kt hj).1.get q, bR_some]
      have ed := (hs1.dmp0 hj q).1 hxD
      have kd := hs1.kd hj q hxD
      rw [ed.1, gC_ok (Or.inr (okc kd.1 (by decide)))]
      have dF : DishF γ G1 (ga (80 + 6 * j + d)) (sc S j (4 + 4 * d)) (sc S j (4 + 4 * d + 1)) (sc S j (4 + 4 * d + 2)) (sc S j (4 + 4 * d + 3)) := ⟨kd.1, kd.2.2.2.2.2.2, by rw [kd.2.1, Int32.sub_add_cancel], kd.2.2.1, kd.2.2.2.1, kd.2.2.2.2.1, kd.2.2.2.2.2.1⟩
      refine wp_bR (wp_ifc kd.1 (wp_mono (X8_copy w1 hs1.2.1 dF) (fun r hr => ?_)))
      obtain ⟨p1, p2, p3, p4, p5, p6⟩ := hr
      have fcp := p3.toC w1 (fun _ _ q => q.elim)
      have c2 := hs1.2.1.keep fcp (fun _ q => q.elim)
      have tm6 := tm5.keepC p4 fcp (fun _ q => q.elim) hs1.2.1.b9 (fun q => q) (fun _ _ _ q => q)
      have ntd : th Tn d = false := by
        rw [a8 d q]
        exact decide_eq_false (fun w => by omega)
      have eb : bx γ r.2 d = bx γ G1 d := by
        show hQ r.2 (γ.1 9) _ = hQ G1 (γ.1 9) _
        rw [fcp.rQ (w1.k hs1.2.1.cache.1 (by decide)) (fun q => q)]
      rw [p1, ← eb]
      refine wp_bR (wp_ifc tm6.at0.1 (wp_mono (tm6.put c2.lt c2.cache.1 q ntd p2.1 p2.2.1 (fun i hi e => ?_)) (fun r2 hr2 => ?_)))
      · cases ti : th Tn i with
        | true =>
          have := w1.k ((tm5.ent hi ti).2.2.2.2.1) (by decide)
          omega
        | false =>
          have := (a5.2.1 i hi ti).1
          have hl := hs1.2.1.lt
          omega
      · obtain ⟨T2, u1_, u2_, u3_, u4_, u5_, u6_, u7_⟩ := hr2
        have u7' : hM r2.2 = hM r.2 + 6 := u7_
        have k15 := tm6.at0.1
        have fcu : Fc (fun a => a = x1 ∨ ∃ i, i < 6 ∧ th Tn i = true ∧ a = en i) r.2 r2.2 := u3_.toC2 p4 (fun b _ e => by
          rcases e with e | ⟨i, hi, ti, e⟩
          · rw [e, k15]; decide
          · rw [e, (tm6.ent hi ti).1]; decide) (fun a ha => ⟨u4_ a 74 (p4.k ha (by decide)) (by decide), u4_ a 68 (p4.k ha (by decide)) (by decide)⟩)
        have hP : ∀ a, (a = x1 ∨ ∃ i, i < 6 ∧ th Tn i = true ∧ a = en i) → hS G0 ≤ a := fun a e => by
          rcases e with e | ⟨i, hi, ti, e⟩
          · omega
          · have := (a9 i hi ti).2.2
            omega
        have F2 : Fc (fun a => hS G0 ≤ a) G0 r2.2 := (F1.trans fcp hw0 (fun _ q => q.elim)).trans fcu hw0 (fun a e => Or.inl (hP a e))
        have hs2 := h0.keepAll u5_ F2 (fun a q => q)
        have k17 : hK r.2 it = 17 := by rw [fcp.kind (w1.k t1.1 (by decide))]; exact t1.1
        have nit : ¬ (it = x1 ∨ ∃ i, i < 6 ∧ th Tn i = true ∧ it = en i) := fun e => by
          rcases e with e | ⟨i, hi, ti, e⟩
          · exact nxi e.symm
          · have := (tm6.ent hi ti).1
            rw [← e, k17] at this
            exact absurd this (by decide)
        have t2a : TIt γ r.2 it (ga (70 + j)) (et j) (tr j) (d + 1) 17 := t1.keep (by decide) tm1 ((h0.keepAll p4 (F1.trans fcp hw0 (fun _ q => q.elim)) (fun a q => q)).kt hj).1 fcp (fun q => q)
        have t2 : TIt γ r2.2 it (ga (70 + j)) (et j) (tr j) (d + 1) 17 := t2a.keep (by decide) ((h0.keepAll p4 (F1.trans fcp hw0 (fun _ q => q.elim)) (fun a q => q)).kt hj).1 (hs2.kt hj).1 fcu nit
        have lq := hw.k a1 (by decide)
        have k20 : hK r.2 q1 = 20 := by rw [fcp.kind (by omega)]; exact k1
        have nq1 : ¬ (q1 = x1 ∨ ∃ i, i < 6 ∧ th Tn i = true ∧ q1 = en i) := fun e => by
          rcases e with e | ⟨i, hi, ti, e⟩
          · rw [← e, k20] at k15; exact absurd k15 (by decide)
          · have := (tm6.ent hi ti).1
            rw [← e, k20] at this
            exact absurd this (by decide)
        have N2 : NewT γ S j q1 x1 lo r2.2 (d + 1) T2 (u1 mn d (hS G1)) (u1 en d (hS r.2)) := by
          refine ⟨by rw [fcu.kind (by omega)]; exact k20, a2, a3, by rw [fcu.rR (by omega) nq1 (by decide), fcp.rR (by omega) (fun q => q) (by decide)]; exact r87, u1_, fcu.2 _ k15 (fcp.2 _ tm5.at0.1 v5), a7, fun i hi => ?_, fun i hi ti => ?_⟩
          · rw [u2_ i hi, a8 i hi]
            by_cases e : i = d
            · subst e
              rw [show (i == i) = true from beq_self_eq_true i, Bool.or_true]
              exact (decide_eq_true ⟨by omega, hxD⟩).symm
            · rw [show (i == d) = false from beq_eq_false_iff_ne.mpr e, Bool.or_false]
              refine decide_eq_decide.mpr ⟨fun w => ⟨by omega, w.2⟩, fun w => ⟨?_, w.2⟩⟩
              rcases Nat.lt_or_ge i k with l | l
              · exact l
              · have := nx_min (T := tr j) l hi (by rw [thE i hi]; exact decide_eq_true w.2)
                omega
          · by_cases e : i = d
            · subst e
              rw [show u1 mn i (hS G1) i = hS G1 from if_pos rfl, show u1 en i (hS r.2) i = hS r.2 from if_pos rfl]
              refine ⟨p2.keep p4 fcu (fun e => ?_), by omega, by omega⟩
              have k22 := p2.1
              rcases e with e | ⟨i2, hi2, ti2, e⟩
              · rw [e, k15] at k22; exact absurd k22 (by decide)
              · rw [e, (tm6.ent hi2 ti2).1] at k22; exact absurd k22 (by decide)
            · have ti' : th Tn i = true := by
                rw [u2_ i hi, show (i == d) = false from beq_eq_false_iff_ne.mpr e, Bool.or_false] at ti
                exact ti
              rw [show u1 mn d (hS G1) i = mn i from if_neg e, show u1 en d (hS r.2) i = en i from if_neg e]
              obtain ⟨z1, z2, z3⟩ := a9 i hi ti'
              have y1 := (z1.keep hw fcI (fun e => by
                have := z1.1
                rw [e, t.1] at this
                exact absurd this (by decide))).keep w1 fcp (fun q => q)
              refine ⟨y1.keep p4 fcu (fun e => ?_), z2, z3⟩
              have k22 := y1.1
              rcases e with e | ⟨i2, hi2, ti2, e⟩
              · rw [e, k15] at k22; exact absurd k22 (by decide)
              · rw [e, (tm6.ent hi2 ti2).1] at k22; exact absurd k22 (by decide)
        refine ih (d + 1) r2.2 _ _ _ (by omega) F2 u5_ (by omega) t2 N2 (fun r5 Tn5 mn5 en5 n5 f5 w5 s5 m5 => kk r5 Tn5 mn5 en5 n5 f5 w5 ?_ ?_)
        · rw [ek, List.length_cons]; omega
        · rw [ek, List.length_cons]; omega
end C25
