section C17
variable {γ : GP} {G G1 : AH} {ga : Nat → Nat} {tr : Nat → List Nat} {et : Nat → Nat → Nat} {S : St} {hb : Nat → Prop} {ms : List Ms}
theorem KS.brings {i ing : Nat} {a : Int32} (h : KS γ ga tr et hb S ms G) (hi : i < nk S) (hg : ing < 4) : wp (f_X2_brings γ (ga 1) (Int32.ofNat i) (Int32.ofNat ing) a G) (CmdQ γ ga tr et hb G ms 1 8 (bringsP S i ing a)) := by
  have hwf := h.1
  unfold f_X2_brings bringsP
  rw [if_pos h.isK, h.cook hi, bR_some, if_pos (h.kc hi).1, h.stock hi hg, bI_some]
  unfold jn
  dsimp only
  by_cases c : 50 < sk S i (3 + ing) + a
  · rw [if_pos c, if_pos c]
    exact h.refuse rfl (by decide) (by decide)
  · rw [if_neg c, if_neg c, meet_ok (by decide), if_pos h.isK, h.cook hi, bR_some]
    have k := h.kc hi
    have ar := h.arrG (b := 0) hi (by decide) hg
    refine wp_bV (wp_ifc k.1 ?_)
    unfold f_X6_gets
    rw [gR_ok (okf k.1 (by decide)), k.2.2.2.2.1, gA_ok (show okX G (ga (30 + 3 * i)) 101 (Int32.ofNat ing) from ar.1)]
    rw [show hA G (ga (30 + 3 * i)) (Int32.ofNat ing).toNatClampNeg = sk S i (3 + ing) from ar.2]
    refine h.pArr (b := 0) hi (by decide) hg (fun h1 s1 => ?_)
    have k1 := h1.kc (i := i) hi
    have a1 := h1.arrG (b := 1) hi (by decide) hg
    show wp (gR (sA G (ga (30 + 3 * i + 0)) ing (sk S i (3 + ing) + a)) (ga (10 + i)) 78 _) _
    rw [gR_ok (okf k1.1 (by decide)), k1.2.2.2.2.2.1, gA_ok (show okX _ (ga (30 + 3 * i + 1)) 101 (Int32.ofNat ing) from a1.1), a1.2]
    refine h1.pArr (b := 1) hi (by decide) hg (fun h2 s2 => wp_some (wp_some ⟨_, rfl, ?_, (s1.trans hwf s2).mono (by omega) (by omega)⟩))
    have e : sk (usk S i (3 + 4 * 0 + ing) (sk S i (3 + ing) + a)) i (3 + 4 * 1 + ing) = sk S i (7 + ing) := by
      rw [sk_usk, if_neg (fun e => by omega), show 3 + 4 * 1 + ing = 7 + ing from by omega]
    rw [e] at h2 ⊢
    rw [show 3 + 4 * 0 + ing = 3 + ing from by omega, show 3 + 4 * 1 + ing = 7 + ing from by omega] at h2
    rw [List.append_nil]
    exact h2
/-- a new cook's object -/
theorem X6_init {q : Nat} {d : Int32} (hw : Wf G) (hc : Cn γ G) (hk : hK G q = 16) (hq : γ.2 < q) (h17 : hI G 17 q = 0) :
    wp (f_X6_init γ q d G) (fun r => (hR r 18 q = hS G ∧ hR r 77 q = hS G + 1 ∧ hR r 78 q = hS G + 2 ∧ hR r 79 q = hS G + 3 ∧ hI r 76 q = d ∧ hI r 17 q = 0) ∧ AL γ r (hS G) [] ∧ hR r 15 (hS G) = γ.1 0 ∧ (∀ b, b < 3 → hK r (hS G + 1 + b) = 101 ∧ hL r (hS G + 1 + b) = 4 ∧ ∀ y, hA r (hS G + 1 + b) y = 0) ∧ Fr (fun a => a = q) G r ∧ Wf r ∧ hS r = hS G + 4 ∧ hM r = hM G + 15) := by
  have lq := hw.k hk (by decide)
  have q0 : q ≠ 0 := by omega
  unfold f_X6_init
  rw [if_pos q0]
  unfold f_X3_init
  rw [if_pos q0]
  refine wp_bV (wp_mO (wp_bV (wp_mono (newAL hw hc) (fun r1 hr => ?_))))
  obtain ⟨p1, p2, p3, p4, p5, p6⟩ := hr
  have k1 : hK r1 q = 16 := by rw [(p3.2.2.1 q lq).1]; exact hk
  have e17 : hI r1 17 q = 0 := by rw [(p3.2.2.2 q lq (fun q => q)).1]; exact h17
  have hlt := hc.lt
  refine wp_pR (okw k1 (by decide) hq) (wp_some ?_)
  have aA : AL γ (sR r1 18 q (hS G)) (hS G) [] ∧ hR (sR r1 18 q (hS G)) 15 (hS G) = hR r1 15 (hS G) := AL.keep p4 ((Fr.refl (fun a => a = q) r1).sR (Or.inl rfl)) p1 (by omega) (fun hh => by rw [p2] at hh; have := hc.le (i := 0) (by decide); omega)
  have w1 : Wf (sR r1 18 q (hS G)) := p4.sR
  have fA : Fr (fun a => a = q) G (sR r1 18 q (hS G)) := (p3.mono (fun _ _ q => q.elim)).sR (Or.inl rfl)
  have s1 : hS (sR r1 18 q (hS G)) = hS G + 1 := p5
  have m1 : hM (sR r1 18 q (hS G)) = hM G + 3 := p6
  have e18 : hR (sR r1 18 q (hS G)) 18 q = hS G := rs
  have kA : hK (sR r1 18 q (hS G)) q = 16 := k1
  have i17 : hI (sR r1 18 q (hS G)) 17 q = 0 := e17
  rw [p2] at aA
  generalize sR r1 18 q (hS G) = g1 at *
  have mk1 : ∀ (g : AH) (f : Nat), (f = 77 ∨ f = 78 ∨ f = 79) → hK g q = 16 → Wf g → q < hS g → ∀ {K : AH → Option AH} {Q : AH → Prop}, (∀ r, Fr (fun a => a = q) g r → Wf r → hS r = hS g + 1 → hM r = hM g + 4 → hK r (hS g) = 101 → hL r (hS g) = 4 → (∀ y, hA r (hS g) y = 0) → hR r f q = hS g → (∀ f2, f2 ≠ f → hR r f2 q = hR g f2 q) → (∀ f2, hI r f2 q = hI g f2 q) → wp (K r) Q) → wp (mA g 101 4 fun q2 g3 => pR γ g3 q f q2 K) Q := by
    intro g f hf hkq hwg lg K Q k
    refine wp_mA ⟨by decide, by decide⟩ ?_
    have kq2 : hK (nA g 101 4) q = 16 := by rw [hK_nA, if_neg (by omega)]; exact hkq
    have hfc : f ∈ cFl 16 ∧ 16 < 37 := by rcases hf with e | e | e <;> subst e <;> decide
    refine wp_pR (okw kq2 hfc hq) ?_
    have fr : Fr (fun a => a = q) g (sR (nA g 101 4) f q (hS g)) := ((Fr.refl _ _).nA).sR (Or.inl rfl)
    refine k _ fr (hwg.nA).sR rfl rfl (by show hK (nA g 101 4) (hS g) = 101; rw [hK_nA, if_pos rfl]) (by show hL (nA g 101 4) (hS g) = 4; rw [hL_nA, if_pos rfl]) (fun y => by show hA (nA g 101 4) (hS g) y = 0; rw [hA_nA, if_pos rfl]) rs (fun f2 h2 => by rw [rf h2]; rfl) (fun f2 => rfl)
  refine mk1 g1 77 (Or.inl rfl) kA w1 (by omega) (fun g2 a1 a2 a3 a4 a5 a6 a7 a8 a9 a10 => ?_)
  refine mk1 g2 78 (Or.inr (Or.inl rfl)) (by rw [(a1.2.2.1 q (by omega)).1]; exact kA) a2 (by omega) (fun g3 b1 b2 b3 b4 b5 b6 b7 b8 b9 b10 => ?_)
  refine mk1 g3 79 (Or.inr (Or.inr rfl)) (by rw [(b1.2.2.1 q (by omega)).1, (a1.2.2.1 q (by omega)).1]; exact kA) b2 (by omega) (fun g4 c1 c2 c3 c4 c5 c6 c7 c8 c9 c10 => ?_)
  have k4 : hK g4 q = 16 := by rw [(c1.2.2.1 q (by omega)).1, (b1.2.2.1 q (by omega)).1, (a1.2.2.1 q (by omega)).1]; exact kA
  refine wp_pI ⟨okw k4 (by decide) hq, rfl, rfl⟩ (wp_some ?_)
  have fAll : Fr (fun a => a = q) g1 g4 := (a1.trans b1 (fun _ e => Or.inl e)).trans c1 (fun _ e => Or.inl e)
  have fI : Fr (fun a => a = q) g4 (sI g4 76 q d) := (Fr.refl _ _).sI (Or.inl rfl)
  have k5 := AL.keep w1 (fAll.trans fI (fun _ e => Or.inl e)) aA.1 (by omega) (fun hh => by rw [aA.2] at hh; have := hc.le (i := 0) (by decide); omega)
  refine ⟨⟨?_, ?_, ?_, ?_, ?_, ?_⟩, k5.1, by rw [k5.2]; exact aA.2, fun b hb => ?_, (fA.trans fAll (fun _ e => Or.inl e)).trans fI (fun _ e => Or.inl e), c2.sI, ?_, ?_⟩
  · show hR g4 18 q = _
    rw [c9 18 (by decide), b9 18 (by decide), a9 18 (by decide)]; exact e18
  · show hR g4 77 q = _
    rw [c9 77 (by decide), b9 77 (by decide), a8, s1]
  · show hR g4 78 q = _
    rw [c9 78 (by decide), b8, a3, s1]
  · show hR g4 79 q = _
    rw [c8, b3, a3, s1]
  · rw [hI_sI, if_pos ⟨rfl, rfl⟩]
  · rw [hI_sI, if_neg (fun e => absurd e.1 (by decide)), c10, b10, a10]; exact i17
  · show hK g4 _ = 101 ∧ hL g4 _ = 4 ∧ ∀ y, hA g4 _ y = 0
    have hb3 : b = 0 ∨ b = 1 ∨ b = 2 := by omega
    rcases hb3 with e | e | e <;> subst e
    · have l1 : hS G + 1 + 0 < hS g2 := by omega
      have l2 : hS G + 1 + 0 < hS g3 := by omega
      have e1 : hS G + 1 + 0 = hS g1 := by omega
      rw [(c1.2.2.1 _ l2).1, (c1.2.2.1 _ l2).2, (c1.2.2.2 _ l2 (by omega)).2.2.1, (b1.2.2.1 _ l1).1, (b1.2.2.1 _ l1).2, (b1.2.2.2 _ l1 (by omega)).2.2.1, e1]
      exact ⟨a5, a6, a7⟩
    · have l2 : hS G + 1 + 1 < hS g3 := by omega
      have e1 : hS G + 1 + 1 = hS g2 := by omega
      rw [(c1.2.2.1 _ l2).1, (c1.2.2.1 _ l2).2, (c1.2.2.2 _ l2 (by omega)).2.2.1, e1]
      exact ⟨b5, b6, b7⟩
    · have e1 : hS G + 1 + 2 = hS g3 := by omega
      rw [e1]
      exact ⟨c5, c6, c7⟩
  · show hS g4 = _
    omega
  · show hM g4 = _
    omega
end C17
