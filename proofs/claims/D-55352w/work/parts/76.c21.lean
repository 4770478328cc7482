/-- a line as it lies -/
def LineF (G : AH) (a : Nat) (l : Ln) : Prop := hK G a = 28 ∧ hI G 110 a = l.1 ∧ hI G 111 a = l.2.1 ∧ hI G 112 a = l.2.2
section C21
variable {γ : GP} {G G1 : AH} {ga : Nat → Nat} {tr : Nat → List Nat} {et : Nat → Nat → Nat} {S : St} {hb : Nat → Prop} {ms : List Ms}
theorem nCA4 {β : Type} {Q : β → Prop} {K : AH → Option β} {b a : Nat} (hw : Wf G) (hb1 : hK G b = 101 ∧ hL G b = 4) (ha : hK G a = 101 ∧ hL G a = 4 ∧ γ.2 < a)
    (k : ∀ r, Fr (fun x => x = a) G r → Wf r → hS r = hS G → hM r = hM G → (∀ y, y < 4 → hA r a y = hA G b y) → (∀ f x, hI r f x = hI G f x) → (∀ f x, hR r f x = hR G f x) → wp (K r) Q) : wp (nCA γ G 101 b 0 a 0 4 K) Q := by
  have okc : okCpy γ G 101 b a 0 0 4 := ⟨hb1.1, ha.1, ha.2.2, by decide, by decide, by decide, by rw [hb1.2]; decide, by rw [ha.2.1]; decide⟩
  unfold nCA
  rw [if_pos okc]
  refine k _ ((Fr.refl (fun x => x = a) G).sAr (Or.inl rfl)) hw.sAr rfl rfl (fun y hy => ?_) (fun _ _ => rfl) (fun _ _ => rfl)
  rw [hA_sAr, if_pos rfl]
  show va_cpy (hA G b) (hA G a) 0 0 4 y = _
  unfold va_cpy
  rw [if_pos (by omega), Nat.sub_zero, Nat.zero_add]
theorem X3_isLike {q s l ls c : Nat} {f : Int32} {LL : List Nat} (hw : Wf G) (hc : Cn γ G) (hcc : c = 16 ∨ c = 4) (hq : hK G q = c ∧ γ.2 < q ∧ hR G 18 q = l) (hl : AL γ G l [] ∧ hR G 15 l = γ.1 0) (hs : hK G s = c ∧ hI G 17 s = f ∧ hR G 18 s = ls) (hls : AL γ G ls LL) (hne : s ≠ q) (hf : f = 0 ∨ f = 1) (hL9 : LL.length < 1000) :
    wp (f_X3_isLike γ q s G) (fun r => hI r 17 q = f ∧ (∀ g, g ≠ 17 → hI r g q = hI G g q) ∧ (∀ g, hR r g q = hR G g q) ∧ AL γ r l LL ∧ (hR r 15 l = γ.1 0 ∨ hS G ≤ hR r 15 l) ∧ Fr (fun a => a = q ∨ a = l) G r ∧ Wf r ∧ hS r ≤ hS G + 2 ∧ hM r ≤ hM G + (2 * LL.length + 10)) := by
  have h17 : 17 ∈ cFl c ∧ c < 37 := by rcases hcc with e | e <;> rw [e] <;> decide
  have h18 : 18 ∈ cFl c := by rcases hcc with e | e <;> rw [e] <;> decide
  have hc3 : c ≠ 3 ∧ c ≠ 106 ∧ c ≠ 15 ∧ c ≠ 21 ∧ c ≠ 26 := by rcases hcc with e | e <;> rw [e] <;> decide
  have lq := hw.k hq.1 (by rcases hcc with e | e <;> omega)
  have hfit : narrow (fTy 17) (.int f) = .int f ∧ fits (fTy 17) (.int f) = true := by rcases hf with e | e <;> subst e <;> exact ⟨rfl, rfl⟩
  unfold f_X3_isLike
  rw [gI_ok (okf hs.1 h17.1), hs.2.1]
  refine wp_pI ⟨okw hq.1 h17 hq.2.1, hfit⟩ ?_
  have f1 : Fr (fun a => a = q) G (sI G 17 q f) := (Fr.refl (fun a => a = q) G).sI (Or.inl rfl)
  have nl : l ≠ q := fun e => by have := hl.1.1; rw [e, hq.1] at this; exact hc3.1 this
  have nls : ls ≠ q := fun e => by have := hls.1; rw [e, hq.1] at this; exact hc3.1 this
  have le0 : γ.1 0 ≤ γ.2 := hc.le (by decide)
  have fc1 := f1.toC hw (fun a _ e => by rw [e, hq.1]; exact hc3.2.2)
  have kl := AL.keep hw f1 hl.1 nl (fun q2 => by rw [hl.2] at q2; omega)
  have kls := AL.keep hw f1 hls nls (fun _ e => by have := hls.2.2.2.1; rw [e, hq.1] at this; exact hc3.2.1 this)
  have w1 : Wf (sI G 17 q f) := hw.sI
  have c1 : Cn γ (sI G 17 q f) := hc.keep fc1 (fun a e => by rw [e]; exact hq.2.1)
  have kq : hK (sI G 17 q f) q = c := hq.1
  have ks1 : hK (sI G 17 q f) s = c := hs.1
  have r18q : hR (sI G 17 q f) 18 q = l := hq.2.2
  have r18s : hR (sI G 17 q f) 18 s = ls := hs.2.2
  have i17 : hI (sI G 17 q f) 17 q = f := by rw [hI_sI, if_pos ⟨rfl, rfl⟩]
  have ig : ∀ g, g ≠ 17 → hI (sI G 17 q f) g q = hI G g q := fun g hg => by rw [hI_sI, if_neg (fun e => hg e.1)]
  have rg : ∀ g, hR (sI G 17 q f) g q = hR G g q := fun g => rfl
  have s1 : hS (sI G 17 q f) = hS G := rfl
  have m1 : hM (sI G 17 q f) = hM G := rfl
  generalize sI G 17 q f = g1 at *
  rw [gR_ok (okf kq h18), r18q, gR_ok (okf ks1 h18), r18s]
  have kl2 : hR g1 15 l = γ.1 0 := by rw [kl.2, hl.2]
  refine wp_bI (wp_ifc kl.1.1 (wp_mono (AL.addAll0 w1 c1.lt kl.1 kl2 c1.emp.2 kls.1 (by omega)) (fun r hr => wp_some ?_)))
  obtain ⟨r1, r2, r3, r4, r5, r6⟩ := hr
  have lq1 : q < hS g1 := by omega
  have sq := r3.2.2.2 q lq1 (fun e => nl e.symm)
  exact ⟨by rw [sq.1]; exact i17, fun g hg => by rw [sq.1]; exact ig g hg, fun g => by rw [sq.2.1]; exact rg g, r1, by rw [← s1]; exact r2, (f1.mono (fun a _ e => Or.inl e)).trans r3 (fun a e => Or.inl (Or.inr e)), r4, by omega, by omega⟩
theorem X6_copy {s ls : Nat} {b : Nat → Nat} {LL : List Nat} {skn : Nat → Int32} (hw : Wf G) (hc : Cn γ G) (hs : hK G s = 16 ∧ hI G 76 s = skn 0 ∧ hI G 17 s = skn 1 ∧ hR G 18 s = ls ∧ hR G 77 s = b 0 ∧ hR G 78 s = b 1 ∧ hR G 79 s = b 2) (hls : AL γ G ls LL) (hf : skn 1 = 0 ∨ skn 1 = 1) (hL9 : LL.length < 1000)
    (hbs : ∀ i, i < 3 → hK G (b i) = 101 ∧ hL G (b i) = 4 ∧ ∀ y, y < 4 → hA G (b i) y = skn (3 + 4 * i + y)) :
    wp (f_X6_copy γ s G) (fun r => r.1 = hS G ∧ (hK r.2 (hS G) = 16 ∧ hI r.2 76 (hS G) = skn 0 ∧ hI r.2 17 (hS G) = skn 1 ∧ hR r.2 18 (hS G) = hS G + 1 ∧ hR r.2 77 (hS G) = hS G + 2 ∧ hR r.2 78 (hS G) = hS G + 3 ∧ hR r.2 79 (hS G) = hS G + 4) ∧ AL γ r.2 (hS G + 1) LL ∧ (hR r.2 15 (hS G + 1) = γ.1 0 ∨ hS G ≤ hR r.2 15 (hS G + 1)) ∧ (∀ i, i < 3 → hK r.2 (hS G + 2 + i) = 101 ∧ hL r.2 (hS G + 2 + i) = 4 ∧ ∀ y, y < 4 → hA r.2 (hS G + 2 + i) y = skn (3 + 4 * i + y)) ∧ Fr (fun _ => False) G r.2 ∧ Wf r.2 ∧ hS r.2 ≤ hS G + 7 ∧ hM r.2 ≤ hM G + (2 * LL.length + 31)) := by
  obtain ⟨n1, n2, n3, n4⟩ := newObj (c := 16) (n := cInst 16) hw
  have hlt := hc.lt
  have fcn := n1.toC hw (fun _ _ q => q.elim)
  have ls0 := hw.k hs.1 (by decide)
  have lb : ∀ i, i < 3 → b i < hS G := fun i hi => hw.k (hbs i hi).1 (by decide)
  unfold f_X6_copy
  refine wp_mO ?_
  have kn : hK (nO G 16 (cInst 16)) s = 16 := by rw [fcn.kind ls0]; exact hs.1
  rw [gI_ok (okf kn (by decide)), fcn.rI ls0 (fun q => q), hs.2.1]
  refine wp_bV ?_
  rw [if_pos n4]
  refine wp_mono (X6_init (d := skn 0) n2 (hc.keep fcn (fun _ q => q.elim)) n3 hlt (by rw [hI_nO, if_pos rfl])) (fun r hr => ?_)
  obtain ⟨⟨x1, x2, x3, x4, x5, x6⟩, y1, y2, y3, y4, y5, y6, y7⟩ := hr
  rw [hS_nO] at x1 x2 x3 x4 y1 y2 y3 y6
  rw [hM_nO, show cInst 16 = 6 from rfl] at y7
  have f1 : Fr (fun _ => False) G r := n1.trans y4 (fun b e => Or.inr (by rw [e]; exact Nat.le_refl _))
  have fc1 := f1.toC hw (fun _ _ q => q.elim)
  have hc1 := hc.keep fc1 (fun _ q => q.elim)
  have kq : hK r (hS G) = 16 := by
    rw [(y4.2.2.1 (hS G) (Nat.lt_succ_self _)).1]; exact n3
  have ss := f1.2.2.2 s ls0 (fun q => q)
  have kls := AL.keep hw f1 hls (fun q => q) (fun _ q => q)
  refine wp_bV (wp_ifc kq (wp_mono (X3_isLike y5 hc1 (Or.inl rfl) ⟨kq, hlt, x1⟩ ⟨y1, y2⟩ ⟨by rw [fc1.kind ls0]; exact hs.1, by rw [ss.1]; exact hs.2.2.1, by rw [ss.2.1]; exact hs.2.2.2.1⟩ kls.1 (by omega) hf hL9) (fun r2 hr2 => ?_)))
  obtain ⟨z1, z2, z3, z4, z5, z6, z7, z8, z9⟩ := hr2
  have f2 : Fr (fun _ => False) G r2 := f1.trans z6 (fun a e => Or.inr (by rcases e with e | e <;> omega))
  have kq2 : hK r2 (hS G) = 16 := by rw [(z6.2.2.1 _ (by omega)).1]; exact kq
  have src : ∀ g : AH, Fr (fun _ => False) G g → hK g s = 16 ∧ (∀ f, hR g f s = hR G f s) ∧ ∀ i, i < 3 → hK g (b i) = 101 ∧ hL g (b i) = 4 ∧ ∀ y, y < 4 → hA g (b i) y = skn (3 + 4 * i + y) := fun g hg => by
    refine ⟨by rw [(hg.2.2.1 s ls0).1]; exact hs.1, (hg.2.2.2 s ls0 (fun q => q)).2.1, fun i hi => ?_⟩
    obtain ⟨h1, h2, h3⟩ := hbs i hi
    exact ⟨by rw [(hg.2.2.1 _ (lb i hi)).1]; exact h1, by rw [(hg.2.2.1 _ (lb i hi)).2]; exact h2, fun y hy => by rw [(hg.2.2.2 _ (lb i hi) (fun q => q)).2.2.1]; exact h3 y hy⟩
  have ar2 : ∀ i, i < 3 → hK r2 (hS G + 2 + i) = 101 ∧ hL r2 (hS G + 2 + i) = 4 := fun i hi => by
    obtain ⟨h1, h2, _⟩ := y3 i hi
    have l : hS G + 1 + 1 + i < hS r := by omega
    have k := z6.2.2.1 _ l
    rw [show hS G + 2 + i = hS G + 1 + 1 + i from by omega, k.1, k.2]
    exact ⟨h1, h2⟩
  obtain ⟨a1, a2, a3⟩ := src r2 f2
  rw [gR_ok (okf a1 (by decide)), a2 77, hs.2.2.2.2.1, gR_ok (okf kq2 (by decide)), z3 77, x2]
  refine nCA4 z7 ⟨(a3 0 (by decide)).1, (a3 0 (by decide)).2.1⟩ ⟨(ar2 0 (by decide)).1, (ar2 0 (by decide)).2, by omega⟩ (fun r3 p1 p2 p3 p4 p5 p6 p7 => ?_)
  have f3 : Fr (fun _ => False) G r3 := f2.trans p1 (fun a e => Or.inr (by omega))
  obtain ⟨b1, b2, b3⟩ := src r3 f3
  have lS2 : hS G + 5 ≤ hS r2 := by have := z6.1; omega
  have kq3 : hK r3 (hS G) = 16 := by rw [(p1.2.2.1 _ (by omega)).1]; exact kq2
  have ar3 : ∀ i, i < 3 → hK r3 (hS G + 2 + i) = 101 ∧ hL r3 (hS G + 2 + i) = 4 := fun i hi => by
    have k := p1.2.2.1 (hS G + 2 + i) (by omega)
    rw [k.1, k.2]; exact ar2 i hi
  rw [gR_ok (okf b1 (by decide)), b2 78, hs.2.2.2.2.2.1, gR_ok (okf kq3 (by decide)), p7, z3 78, x3]
  refine nCA4 p2 ⟨(b3 1 (by decide)).1, (b3 1 (by decide)).2.1⟩ ⟨(ar3 1 (by decide)).1, (ar3 1 (by decide)).2, by omega⟩ (fun r4 q1 q2 q3 q4 q5 q6 q7 => ?_)
  have f4 : Fr (fun _ => False) G r4 := f3.trans q1 (fun a e => Or.inr (by omega))
  obtain ⟨c1, c2, c3⟩ := src r4 f4
  have kq4 : hK r4 (hS G) = 16 := by rw [(q1.2.2.1 _ (by omega)).1]; exact kq3
  have ar4 : ∀ i, i < 3 → hK r4 (hS G + 2 + i) = 101 ∧ hL r4 (hS G + 2 + i) = 4 := fun i hi => by
    have k := q1.2.2.1 (hS G + 2 + i) (by omega)
    rw [k.1, k.2]; exact ar3 i hi
  rw [gR_ok (okf c1 (by decide)), c2 79, hs.2.2.2.2.2.2, gR_ok (okf kq4 (by decide)), q7, p7, z3 79, x4]
  refine nCA4 q2 ⟨(c3 2 (by decide)).1, (c3 2 (by decide)).2.1⟩ ⟨(ar4 2 (by decide)).1, (ar4 2 (by decide)).2, by omega⟩ (fun r5 t1 t2 t3 t4 t5 t6 t7 => wp_some ?_)
  have f5 : Fr (fun _ => False) G r5 := f4.trans t1 (fun a e => Or.inr (by omega))
  have fall : Fr (fun a => a = hS G + 2 ∨ a = hS G + 3 ∨ a = hS G + 4) r2 r5 := ((p1.mono (fun a _ e => Or.inl (by omega))).trans q1 (fun a e => Or.inl (Or.inr (Or.inl (by omega))))).trans t1 (fun a e => Or.inl (Or.inr (Or.inr (by omega))))
  have kl5 := AL.keep z7 fall z4 (by omega) (fun hh e => by
    have k106 := z4.2.2.2.1
    have h101 : hK r2 (hR r2 15 (hS G + 1)) = 101 := by
      rcases e with e | e | e
      · rw [e]; exact (ar2 0 (by decide)).1
      · rw [e]; exact (ar2 1 (by decide)).1
      · rw [e]; exact (ar2 2 (by decide)).1
    rw [k106] at h101
    exact absurd h101 (by decide))
  refine ⟨rfl, ⟨?_, ?_, ?_, ?_, ?_, ?_, ?_⟩, kl5.1, ?_, fun i hi => ?_, f5, t2, ?_, ?_⟩
  · show hK r5 (hS G) = 16
    rw [(t1.2.2.1 _ (by omega)).1]; exact kq4
  · show hI r5 76 (hS G) = _
    rw [t6, q6, p6, z2 76 (by decide)]; exact x5
  · show hI r5 17 (hS G) = _
    rw [t6, q6, p6]; exact z1
  · show hR r5 18 (hS G) = _
    rw [t7, q7, p7, z3]; exact x1
  · show hR r5 77 (hS G) = _
    rw [t7, q7, p7, z3]; exact x2
  · show hR r5 78 (hS G) = _
    rw [t7, q7, p7, z3]; exact x3
  · show hR r5 79 (hS G) = _
    rw [t7, q7, p7, z3]; exact x4
  · show hR r5 15 (hS G + 1) = _ ∨ hS G ≤ hR r5 15 (hS G + 1)
    rw [kl5.2]
    rcases z5 with e | e
    · exact Or.inl e
    · exact Or.inr (by omega)
  · have k := t1.2.2.1 (hS G + 2 + i) (by omega)
    show hK r5 _ = 101 ∧ hL r5 _ = 4 ∧ ∀ y, y < 4 → hA r5 _ y = _
    refine ⟨by rw [k.1]; exact (ar4 i hi).1, by rw [k.2]; exact (ar4 i hi).2, fun y hy => ?_⟩
    have hi3 : i = 0 ∨ i = 1 ∨ i = 2 := by omega
    rcases hi3 with e | e | e <;> subst e
    · rw [show hS G + 2 + 0 = hS G + 1 + 1 from rfl] at *
      rw [(t1.2.2.2 _ (by omega) (by omega)).2.2.1, (q1.2.2.2 _ (by omega) (by omega)).2.2.1, p5 y hy]
      exact (a3 0 (by decide)).2.2 y hy
    · rw [show hS G + 2 + 1 = hS G + 1 + 2 from rfl] at *
      rw [(t1.2.2.2 _ (by omega) (by omega)).2.2.1, q5 y hy]
      exact (b3 1 (by decide)).2.2 y hy
    · rw [show hS G + 2 + 2 = hS G + 1 + 3 from rfl] at *
      rw [t5 y hy]
      exact (c3 2 (by decide)).2.2 y hy
  · show hS r5 ≤ _
    omega
  · show hM r5 ≤ _
    omega
end C21
