def hiresP (S : St) (d : Int32) : (Int32 × St × List Ms) ⊕ (Int32 × Int32) := if nk S < 6 then .inl (Int32.ofNat (nk S), addCk S (fun x => if x = 0 then d else 0) [], []) else .inr (1, 6)
/-- .. where the kitchen may have grown -/
def CmdX (γ : GP) (ga : Nat → Nat) (hb : Nat → Prop) (G : AH) (ms : List Ms) (c s : Nat) (o : (Int32 × St × List Ms) ⊕ (Int32 × Int32)) (r : (Int32 × AH) ⊕ (Nat × AH)) : Prop := match o with
  | .inl (v, S1, new) => ∃ g ga1 tr1 et1, r = .inl (v, g) ∧ ga1 1 = ga 1 ∧ KS γ ga1 tr1 et1 hb S1 (ms ++ new) g ∧ Stq hb G g c s
  | .inr (a, b) => ∃ q g, r = .inr (q, g) ∧ RefX γ g q a b ∧ hS G ≤ q ∧ Stq hb G g c s
theorem Fr.toC2 {P : Nat → Prop} {G G1 : AH} (h : Fr P G G1) (hw : Wf G) (hp : ∀ a, a < hS G → P a → hK G a ≠ 21 ∧ hK G a ≠ 26) (h15 : ∀ a, hK G a = 15 → hR G1 74 a = hR G 74 a ∧ hR G1 68 a = hR G 68 a) : Fc P G G1 := by
  refine ⟨h.zp, fun x hx hv => hv.keep hw (h15 x hx) (fun a ha hk => ?_)⟩
  have s := h.2.2.2 a ha (fun q => by
    have := hp a ha q
    rcases hk with e | e
    · exact this.1 e
    · exact this.2 e)
  exact ⟨(h.2.2.1 a ha).1, s.2.1 92, s.2.1 105⟩
section C18
variable {γ : GP} {G G1 : AH} {ga : Nat → Nat} {tr : Nat → List Nat} {et : Nat → Nat → Nat} {S : St} {hb : Nat → Prop} {ms : List Ms}
theorem CmdQ.toX {c s : Nat} {o : (Int32 × St × List Ms) ⊕ (Int32 × Int32)} {r : (Int32 × AH) ⊕ (Nat × AH)} (h : CmdQ γ ga tr et hb G ms c s o r) : CmdX γ ga hb G ms c s o r := by
  cases o with
  | inl o =>
    obtain ⟨v, S1, new⟩ := o
    obtain ⟨g, e, k, st⟩ := h
    exact ⟨g, ga, tr, et, e, rfl, k, st⟩
  | inr o =>
    obtain ⟨a, b⟩ := o
    exact h
theorem KS.hires {d : Int32} (h : KS γ ga tr et hb S ms G) : wp (f_X2_hires γ (ga 1) d G) (CmdX γ ga hb G ms 6 43 (hiresP S d)) := by
  have hn := h.bnd
  unfold f_X2_hires hiresP
  rw [gR_ok (okf h.isK (by decide)), h.k1.2.1, h.nkF, bI_some]
  unfold jn
  dsimp only
  by_cases c : nk S < 6
  · rw [if_pos c, if_neg (show ¬ (6 : Int32) ≤ Int32.ofNat (nk S) by rw [show (6 : Int32) = Int32.ofNat 6 from rfl, i_le (by omega) (by omega)]; omega), meet_ok (by decide), gR_ok (okf h.isK (by decide)), h.k1.2.1]
    have h00 := h
    obtain ⟨hw, hc, h3, h4, own, k⟩ := h
    obtain ⟨n1, n2, n3, n4⟩ := newObj (c := 16) (n := cInst 16) hw
    have hlt := hc.lt
    have fcn := n1.toC hw (fun _ _ q => q.elim)
    refine wp_mO (wp_bV ?_)
    rw [if_pos n4]
    refine wp_mono (X6_init (d := d) n2 (hc.keep fcn (fun _ q => q.elim)) n3 hlt (by rw [hI_nO, if_pos rfl])) (fun r hr => ?_)
    obtain ⟨⟨x1, x2, x3, x4, x5, x6⟩, y1, y2, y3, y4, y5, y6, y7⟩ := hr
    rw [hS_nO] at x1 x2 x3 x4 y1 y2 y3 y6
    rw [hM_nO] at y7
    have f1 : Fr (fun _ => False) G r := n1.trans y4 (fun b e => Or.inr (by rw [e]; exact Nat.le_refl _))
    have fc1 := f1.toC hw (fun _ _ q => q.elim)
    have hc1 := hc.keep fc1 (fun _ q => q.elim)
    have k1 : Kt γ r own ga tr et hb S ms := k.keepAll hw hc y5 fc1 (fun _ q => q.elim)
    have own0 : ∀ a, hS G ≤ a → own a = 0 := k.1.2.1
    have kc16 : hK r (hS G) = 16 := by
      rw [(y4.2.2.1 (hS G) (Nat.lt_succ_self _)).1]; exact n3
    have le0 : γ.1 0 ≤ γ.2 := hc.le (by decide)
    have k2 := KS.k2 ⟨y5, hc1, h3, fun a q => h4 a (Nat.le_trans f1.1 q), own, k1⟩
    refine wp_bI (wp_ifc k2.1 (wp_mono (Kt.addCook (c := hS G) (l := hS G + 1) (a := fun b => hS G + 1 + 1 + b) (skn := fun x => if x = 0 then d else 0) (lln := []) (LL := []) k1 y5 hc1 (fun b q => h4 b (Nat.le_trans f1.1 q)) c ⟨kc16, hlt, own0 _ (Nat.le_refl _), h4 _ (Nat.le_refl _)⟩ ⟨x5, x6, x1, x2, x3, x4⟩
      ⟨y1, own0 _ (Nat.le_succ _), h4 _ (Nat.le_succ _), fun q => by rw [y2] at q; omega⟩ ⟨rfl, fun i hi => absurd hi (Nat.not_lt_zero _)⟩ (fun b hb2 => ?_) ⟨by omega, by omega, by omega⟩) (fun r2 hr2 => ?_)))
    · obtain ⟨z1, z2, z3⟩ := y3 b hb2
      refine ⟨z1, z2, by omega, own0 _ (by omega), h4 _ (by omega), fun y hy => ?_⟩
      rw [z3 y]
      exact (if_neg (by omega)).symm
    · obtain ⟨own1, w1, w2, w3, w4, w5, w6⟩ := hr2
      have base : ∀ a, own a = 2 → hb a := fun a e => k1.1.2.2.1 a (by rw [e]; decide) (by rw [e]; decide)
      have fh : Fc hb r r2.2 := w2.mono (fun a _ q => base a q)
      have hK2 : KS γ (gaCk ga (nk S) (hS G) (hS G + 1) (fun b => hS G + 1 + 1 + b)) tr et hb (addCk S (fun x => if x = 0 then d else 0) []) ms r2.2 := ⟨w3, hc1.keep fh h3, h3, fun a q => h4 a (Nat.le_trans f1.1 (Nat.le_trans fh.le q)), own1, w1⟩
      have e1 : gaCk ga (nk S) (hS G) (hS G + 1) (fun b => hS G + 1 + 1 + b) 1 = ga 1 := by
        unfold gaCk
        rw [if_neg (by omega), if_neg (by omega), if_neg (by omega)]
      have i2 := hK2.isK
      have i3 := hK2.k1.2.1
      have i4 := hK2.nkF
      rw [e1] at i2 i3
      rw [gR_ok (okf i2 (by decide)), i3, i4, bI_some]
      refine wp_some ⟨r2.2, _, tr, et, ?_, e1, by rw [List.append_nil]; exact hK2, (fc1.mono (fun _ _ q => q.elim)).trans fh hw (fun _ q => Or.inl q), w3, by omega, by show hM r2.2 ≤ _; rw [show cInst 16 = 6 from rfl] at y7; omega⟩
      have : nk (addCk S (fun x => if x = 0 then d else 0) []) = nk S + 1 := rfl
      rw [this, show (1 : Int32) = Int32.ofNat 1 from rfl, i_sub (by omega), Nat.add_sub_cancel]
  · rw [if_neg c, if_pos (show (6 : Int32) ≤ Int32.ofNat (nk S) by rw [show (6 : Int32) = Int32.ofNat 6 from rfl, i_le (by omega) (by omega)]; omega)]
    exact wp_mono (h.refuse rfl (by decide) (by decide)) (fun r hr => CmdQ.toX (o := .inr (1, 6)) hr)
/-- a new map -/
theorem TM.made {x : Nat} (hw : Wf G) (hc : Cn γ G) (hk : hK G x = 15) (hx : γ.2 < x) (h70 : hR G 70 x = 0) : wp (f_J28_init γ x G) (fun r => TM γ r x (List.replicate 25 0) (fun _ => 0) (fun _ => 0) ∧ Fr (fun a => a = x) G r ∧ Wf r ∧ hS r = hS G ∧ hM r = hM G ∧ hR r 74 x = hR G 74 x ∧ hR r 68 x = hR G 68 x) := by
  have x0 : x ≠ 0 := by omega
  have lx := hw.k hk (by decide)
  unfold f_J28_init
  rw [if_pos x0]
  unfold f_J27_init
  rw [if_pos x0, bV_some]
  refine wp_pI ⟨okw hk (by decide) hx, rfl, rfl⟩ (wp_pI ⟨okw (c := 15) hk (by decide) hx, rfl, rfl⟩ (wp_pR (okw (c := 15) hk (by decide) hx) (wp_some ?_)))
  have fr : Fr (fun a => a = x) G (sR (sI (sI G 71 x 0) 72 x 0) 69 x 0) := (((Fr.refl (fun a => a = x) G).sI (Or.inl rfl)).sI (Or.inl rfl)).sR (Or.inl rfl)
  have wf : Wf (sR (sI (sI G 71 x 0) 72 x 0) 69 x 0) := ((hw.sI).sI).sR
  have i71 : hI (sR (sI (sI G 71 x 0) 72 x 0) 69 x 0) 71 x = 0 := by
    show hI (sI (sI G 71 x 0) 72 x 0) 71 x = 0
    rw [hI_sI, if_neg (fun e => absurd e.1 (by decide)), hI_sI, if_pos ⟨rfl, rfl⟩]
  have i72 : hI (sR (sI (sI G 71 x 0) 72 x 0) 69 x 0) 72 x = 0 := by
    show hI (sI (sI G 71 x 0) 72 x 0) 72 x = 0
    rw [hI_sI, if_pos ⟨rfl, rfl⟩]
  have r69 : hR (sR (sI (sI G 71 x 0) 72 x 0) 69 x 0) 69 x = 0 := rs
  have r70 : hR (sR (sI (sI G 71 x 0) 72 x 0) 69 x 0) 70 x = 0 := by rw [rf (by decide)]; exact h70
  have e74 : hR (sR (sI (sI G 71 x 0) 72 x 0) 69 x 0) 74 x = hR G 74 x := by rw [rf (by decide)]; rfl
  have e68 : hR (sR (sI (sI G 71 x 0) 72 x 0) 69 x 0) 68 x = hR G 68 x := by rw [rf (by decide)]; rfl
  have es : hS (sR (sI (sI G 71 x 0) 72 x 0) 69 x 0) = hS G := rfl
  have em : hM (sR (sI (sI G 71 x 0) 72 x 0) 69 x 0) = hM G := rfl
  generalize sR (sI (sI G 71 x 0) 72 x 0) 69 x 0 = r at *
  refine ⟨?_, fr, wf, es, em, e74, e68⟩
  have fcr : Fc (fun a => a = x) G r := fr.toC2 hw (fun a _ e => by rw [e, hk]; decide) (fun a ha => by
    by_cases e : a = x
    · rw [e]; exact ⟨e74, e68⟩
    · have s := fr.2.2.2 a (hw.k ha (by decide)) e
      exact ⟨s.2.1 74, s.2.1 68⟩)
  have hcr : Cn γ r := hc.keep fcr (fun a e => by rw [e]; exact hx)
  have hkr : hK r x = 15 := by rw [fcr.kind lx]; exact hk
  have T0 : ∀ i, i < 6 → th (List.replicate 25 0) i = false := by decide
  have bxk : ∀ i, i < 6 → hK r (bx γ r i) = 12 ∧ hI r 61 (bx γ r i) = Int32.ofNat i := fun i hi => by
    have c := hcr.cache.2.2 (i + 128) (by omega)
    refine ⟨c.1, ?_⟩
    show hI r 61 (hQ r (γ.1 9) (i + 128)) = _
    rw [c.2.1]
    have : i = 0 ∨ i = 1 ∨ i = 2 ∨ i = 3 ∨ i = 4 ∨ i = 5 := by omega
    rcases this with e | e | e | e | e | e <;> subst e <;> decide
  have mc : ∀ a, hK (mk (List.replicate 25 0)) a ≠ 0 → (∃ i, i < 6 ∧ a = i + 1 ∧ hK (mk (List.replicate 25 0)) a = 12) ∨ (a = 7 ∧ hK (mk (List.replicate 25 0)) a = 15) := fun a h => by
    rcases mk_cases h with q | q | ⟨i, hi, ti, _⟩ | ⟨i, hi, ti, _⟩
    · exact Or.inl q
    · exact Or.inr q
    · rw [T0 i hi] at ti; exact absurd ti (by decide)
    · rw [T0 i hi] at ti; exact absurd ti (by decide)
  let φ : Nat → Nat := fun a => if a = 7 then x else if 1 ≤ a ∧ a < 7 then bx γ r (a - 1) else 0
  have p7 : φ 7 = x := if_pos rfl
  have pk : ∀ i, i < 6 → φ (i + 1) = bx γ r i := fun i hi => by
    show (if i + 1 = 7 then x else if 1 ≤ i + 1 ∧ i + 1 < 7 then bx γ r (i + 1 - 1) else 0) = _
    rw [if_neg (by omega), if_pos (by omega), Nat.add_sub_cancel]
  have p0 : φ 0 = 0 := rfl
  have bx0 : ∀ i, i < 6 → bx γ r i ≠ 0 ∧ bx γ r i ≠ x := fun i hi => ⟨fun e => by
      have := (bxk i hi).1
      have := wf.2 (bx γ r i) (by omega)
      omega, fun e => by
      have := (bxk i hi).1
      rw [e, hkr] at this
      exact absurd this (by decide)⟩
  refine ⟨by decide +kernel, fun i hi _ => ⟨rfl, rfl⟩, φ, ⟨rfl, p0, ?_, ?_, ⟨?_, ?_⟩, ?_, ?_, ⟨Fr.refl _ _, fun _ _ _ _ => rfl⟩, wf, rfl, rfl, rfl, (by show 6 < 26; decide), fun a ha => mk_0 ha⟩, p7, pk, fun i hi ti => by rw [T0 i hi] at ti; exact absurd ti (by decide)⟩
  · have key : ∀ a, Dm (hK (mk (List.replicate 25 0))) a → a = 0 ∨ a = 7 ∨ ∃ i, i < 6 ∧ a = i + 1 := fun a ha => by
      rcases ha with e | e
      · exact Or.inl e
      · rcases mc a e with ⟨i, hi, e2, _⟩ | ⟨e2, _⟩
        · exact Or.inr (Or.inr ⟨i, hi, e2⟩)
        · exact Or.inr (Or.inl e2)
    intro a b ha hb e
    rcases key a ha with e1 | e1 | ⟨i, hi, e1⟩ <;> rcases key b hb with e2 | e2 | ⟨j, hj, e2⟩ <;> subst e1 <;> subst e2
    · rfl
    · rw [p0, p7] at e; omega
    · rw [p0, pk j hj] at e; exact absurd e.symm (bx0 j hj).1
    · rw [p0, p7] at e; omega
    · rfl
    · rw [p7, pk j hj] at e; exact absurd e.symm (bx0 j hj).2
    · rw [p0, pk i hi] at e; exact absurd e (bx0 i hi).1
    · rw [p7, pk i hi] at e; exact absurd e (bx0 i hi).2
    · rw [pk i hi, pk j hj] at e
      have v1 := (bxk i hi).2
      have v2 := (bxk j hj).2
      rw [e, v2] at v1
      have := (i_eq (by omega) (by omega)).mp v1
      omega
  · intro a ha
    rcases mc a ha with ⟨i, hi, e, k⟩ | ⟨e, k⟩
    · rw [k, e, pk i hi]; exact (bxk i hi).1
    · rw [k, e, p7]; exact hkr
  · intro a f hf
    have ha : hK (mk (List.replicate 25 0)) a ≠ 0 := fun q => tfI_0 (by rw [q] at hf; exact hf)
    rcases mc a ha with ⟨i, hi, e, k⟩ | ⟨e, k⟩
    · rw [k] at hf
      have hf1 : f = 61 := List.mem_singleton.mp hf
      rw [hf1, e, pk i hi, (bxk i hi).2]
      rfl
    · rw [k] at hf
      have hf1 : f = 71 ∨ f = 72 := by
        have : f ∈ [71, 72] := hf
        simp at this
        exact this
      rw [e, p7]
      rcases hf1 with e1 | e1 <;> subst e1
      · rw [i71]; rfl
      · rw [i72]; rfl
  · intro a f hf
    have ha : hK (mk (List.replicate 25 0)) a ≠ 0 := fun q => tfR_0 (by rw [q] at hf; exact hf)
    rcases mc a ha with ⟨i, hi, e, k⟩ | ⟨e, k⟩
    · rw [k] at hf
      exact absurd (show f ∈ [] from hf) List.not_mem_nil
    · rw [k] at hf
      have hf1 : f = 69 ∨ f = 70 := by
        have : f ∈ [69, 70] := hf
        simp at this
        exact this
      rw [e, p7]
      rcases hf1 with e1 | e1 <;> subst e1
      · exact ⟨Or.inl rfl, by rw [r69]; rfl⟩
      · exact ⟨Or.inl rfl, by rw [r70]; rfl⟩
  · intro a ha hka
    rcases mc a hka with ⟨i, hi, e, k⟩ | ⟨e, k⟩
    · omega
    · rw [e, p7]; exact hx
  · intro a ha hka
    rcases mc a (by omega) with ⟨i, hi, e, k⟩ | ⟨e, k⟩
    · omega
    · rw [e, p7]; exact Or.inl rfl
end C18
