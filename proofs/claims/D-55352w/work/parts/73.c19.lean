def crn0 : Nat → Int32 := fun x => if x = 1 ∨ x = 2 then -1 else 0
def plansP (S : St) : (Int32 × St × List Ms) ⊕ (Int32 × Int32) := if nc S < 8 then .inl (Int32.ofNat (nc S), addCr S crn0 0, []) else .inr (1, 8)
section C19
variable {γ : GP} {G G1 : AH} {ga : Nat → Nat} {tr : Nat → List Nat} {et : Nat → Nat → Nat} {S : St} {hb : Nat → Prop} {ms : List Ms}
/-- a new course's object -/
theorem X7_init {q : Nat} (hw : Wf G) (hc : Cn γ G) (hk : hK G q = 20) (hq : γ.2 < q) (h88 : hI G 88 q = 0) (h91 : hI G 91 q = 0) :
    wp (f_X7_init γ q G) (fun r => (hR r 87 q = hS G ∧ hI r 88 q = 0 ∧ hI r 89 q = -1 ∧ hI r 90 q = -1 ∧ hI r 91 q = 0) ∧ TM γ r (hS G) (List.replicate 25 0) (fun _ => 0) (fun _ => 0) ∧ VwOK r (hS G) ∧ Fr (fun a => a = q) G r ∧ Wf r ∧ hS r = hS G + 1 ∧ hM r = hM G + 9) := by
  have lq := hw.k hk (by decide)
  have q0 : q ≠ 0 := by omega
  obtain ⟨n1, n2, n3, n4⟩ := newObj (c := 15) (n := cInst 15) hw
  have hlt := hc.lt
  have cn := hc.keep (n1.toC hw (fun _ _ q => q.elim)) (fun _ q => q.elim)
  unfold f_X7_init
  rw [if_pos q0]
  refine wp_mO (wp_bV ?_)
  rw [if_pos n4]
  refine wp_mono (TM.made n2 cn n3 hlt (by rw [hR_nO, if_pos rfl])) (fun r1 hr => ?_)
  obtain ⟨t1, t2, t3, t4, t5, t6, t7⟩ := hr
  rw [hR_nO, if_pos rfl] at t6 t7
  have lq2 : q < hS (nO G 15 (cInst 15)) := by rw [hS_nO]; omega
  have f1 : Fr (fun _ => False) G r1 := n1.trans t2 (fun b e => Or.inr (by rw [e]; exact Nat.le_refl _))
  have k1 : hK r1 q = 20 := by rw [(f1.2.2.1 q lq).1]; exact hk
  have s := f1.2.2.2 q lq (fun q => q)
  refine wp_pR (okw k1 (by decide) hq) (wp_pI ⟨okw (c := 20) k1 (by decide) hq, rfl, rfl⟩ (wp_pI ⟨okw (c := 20) k1 (by decide) hq, rfl, rfl⟩ (wp_some ?_)))
  have fr2 : Fr (fun a => a = q) r1 (sI (sI (sR r1 87 q (hS G)) 89 q (-1)) 90 q (-1)) := (((Fr.refl (fun a => a = q) r1).sR (Or.inl rfl)).sI (Or.inl rfl)).sI (Or.inl rfl)
  have w2 : Wf (sI (sI (sR r1 87 q (hS G)) 89 q (-1)) 90 q (-1)) := ((t3.sR).sI).sI
  have c1 : Cn γ r1 := hc.keep (f1.toC hw (fun _ _ q => q.elim)) (fun _ q => q.elim)
  have fc2 : Fc (fun a => a = q) r1 (sI (sI (sR r1 87 q (hS G)) 89 q (-1)) 90 q (-1)) := fr2.toC t3 (fun a _ e => by rw [e, k1]; decide)
  have tk := t1.keepC w2 fc2 (fun a e => by rw [e]; exact hq) c1.b9 (by omega) (fun i hi ti => by
    have : th (List.replicate 25 0) i = false := by
      have T0 : ∀ i, i < 6 → th (List.replicate 25 0) i = false := by decide
      exact T0 i hi
    rw [this] at ti; exact absurd ti (by decide))
  refine ⟨⟨?_, ?_, ?_, ?_, ?_⟩, tk, ⟨Or.inl ?_, Or.inl ?_⟩, (f1.mono (fun _ _ q => q.elim)).trans fr2 (fun _ e => Or.inl e), w2, ?_, ?_⟩
  · show hR (sR r1 87 q (hS G)) 87 q = hS G
    rw [rs]
  · rw [hI_sI, if_neg (fun e => absurd e.1 (by decide)), hI_sI, if_neg (fun e => absurd e.1 (by decide))]
    show hI r1 88 q = 0
    rw [s.1]; exact h88
  · rw [hI_sI, if_neg (fun e => absurd e.1 (by decide)), hI_sI, if_pos ⟨rfl, rfl⟩]
  · rw [hI_sI, if_pos ⟨rfl, rfl⟩]
  · rw [hI_sI, if_neg (fun e => absurd e.1 (by decide)), hI_sI, if_neg (fun e => absurd e.1 (by decide))]
    show hI r1 91 q = 0
    rw [s.1]; exact h91
  · show hR (sR r1 87 q (hS G)) 74 (hS G) = 0
    rw [rf (by decide)]; exact t6
  · show hR (sR r1 87 q (hS G)) 68 (hS G) = 0
    rw [rf (by decide)]; exact t7
  · show hS r1 = _
    rw [t4, hS_nO]
  · show hM r1 = _
    rw [t5, hM_nO]; rfl
theorem KS.plans (h : KS γ ga tr et hb S ms G) : wp (f_X2_plans γ (ga 1) G) (CmdX γ ga hb G ms 3 40 (plansP S)) := by
  have hn := h.bnd
  unfold f_X2_plans plansP
  rw [gR_ok (okf h.isK (by decide)), h.k1.2.2.1, h.ncF, bI_some]
  unfold jn
  dsimp only
  by_cases c : nc S < 8
  · rw [if_pos c, if_neg (show ¬ (8 : Int32) ≤ Int32.ofNat (nc S) by rw [show (8 : Int32) = Int32.ofNat 8 from rfl, i_le (by omega) (by omega)]; omega), meet_ok (by decide), gR_ok (okf h.isK (by decide)), h.k1.2.2.1]
    have h00 := h
    obtain ⟨hw, hc, h3, h4, own, k⟩ := h
    obtain ⟨n1, n2, n3, n4⟩ := newObj (c := 20) (n := cInst 20) hw
    have hlt := hc.lt
    have fcn := n1.toC hw (fun _ _ q => q.elim)
    refine wp_mO (wp_bV ?_)
    rw [if_pos n4]
    refine wp_mono (X7_init n2 (hc.keep fcn (fun _ q => q.elim)) n3 hlt (by rw [hI_nO, if_pos rfl]) (by rw [hI_nO, if_pos rfl])) (fun r hr => ?_)
    obtain ⟨⟨x1, x2, x3, x4, x5⟩, y1, y2, y3, y4, y5, y6⟩ := hr
    rw [hS_nO] at x1 y1 y2 y5
    rw [hM_nO] at y6
    have f1 : Fr (fun _ => False) G r := n1.trans y3 (fun b e => Or.inr (by rw [e]; exact Nat.le_refl _))
    have fc1 := f1.toC hw (fun _ _ q => q.elim)
    have hc1 := hc.keep fc1 (fun _ q => q.elim)
    have k1 : Kt γ r own ga tr et hb S ms := k.keepAll hw hc y4 fc1 (fun _ q => q.elim)
    have own0 : ∀ a, hS G ≤ a → own a = 0 := k.1.2.1
    have kc20 : hK r (hS G) = 20 := by
      rw [(y3.2.2.1 (hS G) (Nat.lt_succ_self _)).1]; exact n3
    have T0 : ∀ i, i < 6 → th (List.replicate 25 0) i = false := by decide
    have T1 : ∀ d, d < 6 → th (List.replicate 25 0) d = decide (0 < crn0 (4 + 4 * d)) := by decide
    have k3 := KS.k3 ⟨y4, hc1, h3, fun a q => h4 a (Nat.le_trans f1.1 q), own, k1⟩
    refine wp_bI (wp_ifc k3.1 (wp_mono (Kt.addCourse (c := hS G) (x := hS G + 1) (vt := 0) (T := List.replicate 25 0) (m := fun _ => 0) (e := fun _ => 0) (crn := crn0) k1 y4 hc1 (fun b q => h4 b (Nat.le_trans f1.1 q)) c ⟨kc20, hlt, own0 _ (Nat.le_refl _), h4 _ (Nat.le_refl _)⟩ ⟨x2, x3, x4, x5, x1⟩
      ⟨y1, y2, own0 _ (Nat.le_succ _), h4 _ (Nat.le_succ _)⟩ (fun d hd ht => by rw [T0 d hd] at ht; exact absurd ht (by decide)) T1 (fun d hd ht => by rw [T0 d hd] at ht; exact absurd ht (by decide))) (fun r2 hr2 => ?_)))
    obtain ⟨own1, w1, w2, w3, w4, w5, w6⟩ := hr2
    have base : ∀ a, own a = 3 → hb a := fun a e => k1.1.2.2.1 a (by rw [e]; decide) (by rw [e]; decide)
    have fh : Fc hb r r2.2 := w2.mono (fun a _ q => base a q)
    have hK2 : KS γ (gaCr ga (nc S) (hS G) (hS G + 1) (fun _ => 0)) (fun j => if j = nc S then List.replicate 25 0 else tr j) (fun j => if j = nc S then (fun _ => 0) else et j) hb (addCr S crn0 0) ms r2.2 := ⟨w3, hc1.keep fh h3, h3, fun a q => h4 a (Nat.le_trans f1.1 (Nat.le_trans fh.le q)), own1, w1⟩
    have e1 : gaCr ga (nc S) (hS G) (hS G + 1) (fun _ => 0) 1 = ga 1 := by
      unfold gaCr
      rw [if_neg (by omega), if_neg (by omega), if_neg (by omega)]
    have i2 := hK2.isK
    have i3 := hK2.k1.2.2.1
    have i4 := hK2.ncF
    rw [e1] at i2 i3
    rw [gR_ok (okf i2 (by decide)), i3, i4, bI_some]
    refine wp_some ⟨r2.2, _, _, _, ?_, e1, by rw [List.append_nil]; exact hK2, (fc1.mono (fun _ _ q => q.elim)).trans fh hw (fun _ q => Or.inl q), w3, by omega, by show hM r2.2 ≤ _; rw [show cInst 20 = 5 from rfl] at y6; omega⟩
    have : nc (addCr S crn0 0) = nc S + 1 := rfl
    rw [this, show (1 : Int32) = Int32.ofNat 1 from rfl, i_sub (by omega), Nat.add_sub_cancel]
  · rw [if_neg c, if_pos (show (8 : Int32) ≤ Int32.ofNat (nc S) by rw [show (8 : Int32) = Int32.ofNat 8 from rfl, i_le (by omega) (by omega)]; omega)]
    exact wp_mono (h.refuse rfl (by decide) (by decide)) (fun r hr => CmdQ.toX (o := .inr (1, 8)) hr)
end C19
