/-- tags of new cells: q is frozen, the others belong to t -/
def ext (own kd : Nat → Nat) (g g1 q t : Nat) : Nat → Nat := fun b => if b < g then own b else if b < g1 then (if b = q then 9 else if 28 ≤ kd b ∧ kd b ≤ 32 then 0 else t) else 0
section EXT
variable {own kd : Nat → Nat} {g g1 q t b : Nat}
theorem ext_old (h : b < g) : ext own kd g g1 q t b = own b := if_pos h
theorem ext_new (h : g ≤ b) (h1 : b < g1) (hq : b ≠ q) (hk : ¬ (28 ≤ kd b ∧ kd b ≤ 32)) : ext own kd g g1 q t b = t := by
  unfold ext
  rw [if_neg (by omega), if_pos h1, if_neg hq, if_neg hk]
theorem ext_q (h : g ≤ q) (h1 : q < g1) : ext own kd g g1 q t q = 9 := by
  unfold ext
  rw [if_neg (by omega), if_pos h1, if_pos rfl]
theorem ext_9 (h : g ≤ b) (ht : t ≠ 9) (e : ext own kd g g1 q t b = 9) : b = q := by
  unfold ext at e
  rw [if_neg (by omega)] at e
  by_cases c : b < g1
  · rw [if_pos c] at e
    by_cases c2 : b = q
    · exact c2
    · rw [if_neg c2] at e
      by_cases c3 : 28 ≤ kd b ∧ kd b ≤ 32
      · rw [if_pos c3] at e; exact absurd e (by decide)
      · rw [if_neg c3] at e; exact absurd e ht
  · rw [if_neg c] at e; exact absurd e (by decide)
theorem ext_k (h : g ≤ b) (hk : 28 ≤ kd b) (hk2 : kd b ≤ 32) : ext own kd g g1 q t b = 0 ∨ ext own kd g g1 q t b = 9 := by
  unfold ext
  rw [if_neg (by omega)]
  by_cases c : b < g1
  · rw [if_pos c]
    by_cases c2 : b = q
    · rw [if_pos c2]; exact Or.inr rfl
    · rw [if_neg c2, if_pos ⟨hk, hk2⟩]; exact Or.inl rfl
  · rw [if_neg c]; exact Or.inl rfl
theorem ext_out (h : g1 ≤ b) (h1 : g ≤ g1) : ext own kd g g1 q t b = 0 := by
  unfold ext
  rw [if_neg (by omega), if_neg (by omega)]
end EXT
theorem nd_app2 {L : List Nat} {v i : Nat} (hi : i < L.length + 1) : nd (L ++ [v]) i = if i < L.length then nd L i else v := by
  by_cases c : i < L.length
  · rw [if_pos c, nd_app c]
  · rw [if_neg c, show i = L.length from by omega, nd_last]
theorem getD_app2 {α : Type} {l : List α} {v d : α} {i : Nat} (hi : i < l.length + 1) : (l ++ [v]).getD i d = if i < l.length then l.getD i d else v := by
  by_cases c : i < l.length
  · rw [if_pos c, List.getD_eq_getElem?_getD, List.getD_eq_getElem?_getD, List.getElem?_append_left c]
  · rw [if_neg c, show i = l.length from by omega, List.getD_eq_getElem?_getD, List.getElem?_concat_length]
    rfl
section PUSH
variable {γ : GP} {G : AH} {own ga : Nat → Nat} {tr : Nat → List Nat} {et : Nat → Nat → Nat} {S : St} {hb : Nat → Prop} {ms : List Ms}
theorem newObj {c n : Nat} (hw : Wf G) : Fr (fun _ => False) G (nO G c n) ∧ Wf (nO G c n) ∧ hK (nO G c n) (hS G) = c ∧ hS G ≠ 0 := ⟨(Fr.refl _ _).nO, hw.nO, by rw [hK_nO, if_pos rfl], by have := hw.1; omega⟩
theorem X12_init {q : Nat} {v1 v2 v3 : Int32} (hk : hK G q = 28) (hb : γ.2 < q) (hw : Wf G) : wp (f_X12_init γ q v1 v2 v3 G) (fun r => hI r 110 q = v1 ∧ hI r 111 q = v2 ∧ hI r 112 q = v3 ∧ Fr (fun a => a = q) G r ∧ Wf r ∧ hS r = hS G ∧ hM r = hM G) := by
  unfold f_X12_init
  refine wp_ifc (by omega) (wp_pI ⟨okw hk (by decide) hb, rfl, rfl⟩ (wp_pI ⟨okw (c := 28) hk (by decide) hb, rfl, rfl⟩ (wp_pI ⟨okw (c := 28) hk (by decide) hb, rfl, rfl⟩ (wp_some ?_))))
  refine ⟨?_, ?_, ?_, ((((Fr.refl (fun a => a = q) G).sI (Or.inl rfl)).sI (Or.inl rfl)).sI (Or.inl rfl)), ((hw.sI).sI).sI, rfl, rfl⟩
  · rw [hI_sI, if_neg (fun e => absurd e.1 (by decide)), hI_sI, if_neg (fun e => absurd e.1 (by decide)), hI_sI, if_pos ⟨rfl, rfl⟩]
  · rw [hI_sI, if_neg (fun e => absurd e.1 (by decide)), hI_sI, if_pos ⟨rfl, rfl⟩]
  · rw [hI_sI, if_pos ⟨rfl, rfl⟩]
theorem LogR.push {a x t c : Nat} {ls : List Ln} {v1 v2 v3 : Int32} (h : LogR γ G own x t ls) (hw : Wf G) (hc : Cn γ G) (hk : hK G a = c) (hcc : c = 16 ∨ c = 4) (hx : hR G 18 a = x) (ht : t ≠ 0 ∧ t ≠ 9) (hlen : ls.length < 1000) :
    wp (f_X3_writes γ a v1 v2 v3 G) (fun r => LogR γ r (ext own (hK r) (hS G) (hS r) (hS G) t) x t (ls ++ [(v1, v2, v3)]) ∧ Fc (fun b => own b = t) G r ∧ Wf r ∧ hS G < hS r ∧ hS r ≤ hS G + 2 ∧ hM r ≤ hM G + (2 * ls.length + 13) ∧ hK r (hS G) = 28) := by
  obtain ⟨L, ⟨a1, a2, a3⟩, hL, hl⟩ := h
  have hb := hc.lt
  have h18 : 18 ∈ cFl c := by rcases hcc with e | e <;> rw [e] <;> decide
  obtain ⟨n1, n2, n3, n4⟩ := newObj (c := 28) (n := cInst 28) hw
  have lx := hw.k a1.1 (by decide)
  unfold f_X3_writes
  refine wp_gR (okf hk h18) ?_
  rw [hx]
  refine wp_mO (wp_bV ?_)
  rw [if_pos n4]
  refine wp_mono (X12_init n3 hb n2) (fun r hr => ?_)
  obtain ⟨i1, i2, i3, i4, i5, i6, i7⟩ := hr
  have f1 : Fr (fun _ => False) G r := n1.trans i4 (fun b e => Or.inr (by rw [e]; exact Nat.le_refl _))
  have s1 : hS r = hS G + 1 := i6
  have m1 : hM r = hM G + 3 := i7
  have kr : hK r (hS G) = 28 := by rw [(i4.2.2.1 (hS G) (Nat.lt_succ_self _)).1]; exact n3
  have al1 : AL γ r x L := (AL.keep hw f1 a1 (fun q => q) (fun _ q => q)).1
  have e15 : hR r 15 x = hR G 15 x := (AL.keep hw f1 a1 (fun q => q) (fun _ q => q)).2
  refine wp_bI (wp_ifc al1.1 (wp_mono (AL.push (v := hS G) i5 (by omega) al1 (by rw [kr]; decide) (by omega)) (fun r2 hr2 => ?_)))
  obtain ⟨p1, p2, p3, p4, p5, p6, p7⟩ := hr2
  have lx2 : x < hS r := by omega
  have k106 := p2.2.2.2.1
  have lq := p5.k k106 (by decide)
  have frs : Fr (fun b => own b = t) G r2.2 := by
    refine (f1.mono (fun _ _ q => q.elim)).trans p4 (fun b hb2 => ?_)
    rcases hb2 with e | ⟨e, e2⟩
    · exact Or.inl (by rw [e]; exact a2)
    · rw [e15] at e
      rw [e] at e2
      exact Or.inl (by rw [e]; exact a3 e2)
  have fcs : Fc (fun b => own b = t) G r2.2 := by
    have hp : Fr (fun b => b = x ∨ (b = hR G 15 x ∧ γ.2 < b)) G r2.2 := (f1.mono (fun _ _ q => q.elim)).trans p4 (fun b hb2 => by
      rcases hb2 with e | ⟨e, e2⟩
      · exact Or.inl (Or.inl e)
      · exact Or.inl (Or.inr ⟨by rw [← e15]; exact e, e2⟩))
    refine (hp.toC hw (fun b _ e => ?_)).mono (fun b _ e => ?_)
    · rcases e with e | e
      · rw [e, a1.1]; decide
      · rw [e.1, a1.2.2.2.1]; decide
    · rcases e with e | e
      · rw [e]; exact a2
      · rw [e.1]
        exact a3 (by rw [← e.1]; exact e.2)
  have hsr : hS r ≤ hS r2.2 := p4.1
  refine wp_some ⟨⟨L ++ [hS G], ⟨p2, by rw [ext_old lx]; exact a2, fun q => ?_⟩, by rw [List.length_append, List.length_append, hL]; rfl, fun i hi => ?_⟩, fcs, p5, by omega, by omega, by omega, by rw [(p4.2.2.1 (hS G) (by omega)).1]; exact kr⟩
  · rcases p3 with e | e
    · rw [e, e15] at q ⊢
      rw [ext_old (hw.k a1.2.2.2.1 (by decide))]
      exact a3 q
    · rw [e] at lq ⊢
      exact ext_new (by omega) lq (by omega) (by rw [e] at k106; rw [k106]; decide)
  · rw [List.length_append, List.length_singleton] at hi
    rw [nd_app2 (by omega), getD_app2 hi, hL]
    by_cases ci : i < ls.length
    · rw [if_pos ci, if_pos ci]
      exact (hl i ci).keep hw fcs (fun b hb2 _ => ext_old hb2) (fun b e9 et => ht.2 (by rw [← et, e9]))
    · rw [if_neg ci, if_neg ci]
      have ss := p4.2.2.2 (hS G) (by omega) (fun q => by
        rcases q with q | q
        · omega
        · have := q.1
          rw [e15] at this
          have := hw.k a1.2.2.2.1 (by decide)
          omega)
      refine ⟨by rw [(p4.2.2.1 (hS G) (by omega)).1]; exact kr, ext_q (Nat.le_refl _) (by omega), ?_, ?_, ?_⟩
      · rw [ss.1]; exact i1
      · rw [ss.1]; exact i2
      · rw [ss.1]; exact i3
end PUSH
