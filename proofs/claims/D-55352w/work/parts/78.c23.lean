/-- a new kitchen, with S's cooks and courses still to come -/
def emptyS (S : St) : St := ((0, 0), (fun f => if f = 0 ∨ f = 3 ∨ f = 4 then 0 else sg S f), sk S, sc S, (fun w => if w = 0 then [] else sl S w), sv S)
def partS (S : St) (i j : Nat) : St := ((i, j), (fun f => if f = 0 ∨ f = 3 ∨ f = 4 then 0 else sg S f), sk S, sc S, (fun w => if w = 0 then [] else sl S w), sv S)
theorem part_ck {S : St} {i j : Nat} : addCk (partS S i j) (sk S i) (sl S (i + 1)) = partS S (i + 1) j := by
  have e1 : (fun i2 x => if i2 = i then sk S i x else sk S i2 x) = sk S := by
    funext i2 x
    by_cases c : i2 = i
    · rw [if_pos c, c]
    · rw [if_neg c]
  have e2 : (fun w => if w = i + 1 then sl S (i + 1) else if w = 0 then [] else sl S w) = fun w => if w = 0 then [] else sl S w := by
    funext w
    by_cases c : w = i + 1
    · rw [if_pos c, if_neg (by omega), c]
    · rw [if_neg c]
  show ((i + 1, j), _, (fun i2 x => if i2 = i then sk S i x else sk S i2 x), sc S, (fun w => if w = i + 1 then sl S (i + 1) else if w = 0 then [] else sl S w), sv S) = _
  rw [e1, e2]
  rfl
theorem part_cr {S : St} {i j : Nat} : addCr (partS S i j) (sc S j) (sv S j) = partS S i (j + 1) := by
  have e1 : (fun j2 x => if j2 = j then sc S j x else sc S j2 x) = sc S := by
    funext i2 x
    by_cases c : i2 = j
    · rw [if_pos c, c]
    · rw [if_neg c]
  have e2 : (fun j2 => if j2 = j then sv S j else sv S j2) = sv S := by
    funext w
    by_cases c : w = j
    · rw [if_pos c, c]
    · rw [if_neg c]
  show ((i, j + 1), _, sk S, (fun j2 x => if j2 = j then sc S j x else sc S j2 x), _, (fun j2 => if j2 = j then sv S j else sv S j2)) = _
  rw [e1, e2]
  rfl
section C23
variable {γ : GP} {G G1 : AH} {ga : Nat → Nat} {tr : Nat → List Nat} {et : Nat → Nat → Nat} {S : St} {hb : Nat → Prop} {ms : List Ms}
theorem KS.new (hw : Wf G) (hc : Cn γ G) (S : St) : wp (mO G 2 fun q1 g2 => bV (if q1 ≠ 0 then f_X2_init γ q1 g2 else none) fun g3 => some (q1, g3)) (fun r => r.1 = hS G ∧ ∃ ga1, ga1 1 = hS G ∧ KS γ ga1 (fun _ => []) (fun _ _ => 0) (fun a => hS G ≤ a) (partS S 0 0) [] r.2 ∧ hR r.2 15 (ga1 5) = γ.1 0 ∧ Fr (fun _ => False) G r.2 ∧ hS r.2 = hS G + 6 ∧ hM r.2 = hM G + 21) := by
  obtain ⟨n1, n2, n3, n4⟩ := newObj (c := 2) (n := cInst 2) hw
  have hlt := hc.lt
  have le0 : γ.1 0 ≤ γ.2 := hc.le (by decide)
  have cn := hc.keep (n1.toC hw (fun _ _ q => q.elim)) (fun _ q => q.elim)
  refine wp_mO (wp_bV ?_)
  rw [if_pos n4]
  refine wp_mono (X2_init n2 cn n3 hlt) (fun r hr => wp_some ?_)
  obtain ⟨⟨a1, a2, a3, a4, a5, a6⟩, b1, b2, ⟨d1, d2, d3⟩, b3, b4, f, w, s, m⟩ := hr
  rw [hS_nO] at a1 a2 a3 a4 b1 b2 d1 d2 d3 b3 b4 s
  rw [hM_nO, show cInst 2 = 6 from rfl] at m
  rw [hI_nO, if_pos rfl] at a5 a6
  have f1 : Fr (fun _ => False) G r := n1.trans f (fun b e => Or.inr (by rw [e]; exact Nat.le_refl _))
  have c1 := hc.keep (f1.toC hw (fun _ _ q => q.elim)) (fun _ q => q.elim)
  have kq : hK r (hS G) = 2 := by rw [(f.2.2.1 (hS G) (Nat.lt_succ_self _)).1]; exact n3
  let own : Nat → Nat := fun b => if hS G ≤ b ∧ b < hS G + 6 then b - hS G + 1 else 0
  have ow : ∀ t, t < 6 → own (hS G + t) = t + 1 := fun t ht => by
    show (if hS G ≤ hS G + t ∧ hS G + t < hS G + 6 then hS G + t - hS G + 1 else 0) = _
    rw [if_pos ⟨by omega, by omega⟩]; omega
  have ow0 : ∀ b, b < hS G ∨ hS G + 6 ≤ b → own b = 0 := fun b h => if_neg (by omega)
  refine ⟨rfl, fun t => hS G + (t - 1), rfl, ⟨w, c1, fun a q => by have q1 : hS G ≤ a := q; omega, fun a q => by show hS G ≤ a; have := f1.1; have q1 : hS r ≤ a := q; omega, own, ⟨⟨fun a ha => ow0 a (by omega), (fun a ha => ow0 a (by have q1 : hS r ≤ a := ha; omega)), fun a q q9 => ?_, by show 0 ≤ 6; omega, by show 0 ≤ 8; omega, fun a q => ?_, fun a q1 q2 => ?_⟩, ?_, ⟨b1.1, ow 1 (by decide), fun q => by rw [show hR r 15 (hS G + (2 - 1)) = γ.1 0 from b1.2] at q; omega⟩, ⟨b2.1, ow 2 (by decide), fun q => by rw [show hR r 15 (hS G + (3 - 1)) = γ.1 0 from b2.2] at q; omega⟩, ⟨d1, by show γ.2 < hS G + 3; omega, ow 3 (by decide), d2, d3⟩, ⟨[], ⟨b3.1, ow 4 (by decide), fun q => by rw [show hR r 15 (hS G + (5 - 1)) = γ.1 0 from b3.2] at q; omega⟩, rfl, fun i hi => absurd hi (Nat.not_lt_zero _)⟩, ⟨[], [], b4, ow 5 (by decide), (fun a ha => absurd ha List.not_mem_nil), rfl, fun i hi => absurd hi (Nat.not_lt_zero _)⟩, fun i hi => absurd hi (Nat.not_lt_zero _), fun i hi => absurd hi (Nat.not_lt_zero _), fun i hi => absurd hi (Nat.not_lt_zero _), fun i hi => absurd hi (Nat.not_lt_zero _), fun i hi => absurd hi (Nat.not_lt_zero _), fun i hi => absurd hi (Nat.not_lt_zero _)⟩⟩, b3.2, f1, by show hS r = _; omega, by show hM r = _; omega⟩
  · rcases Nat.lt_or_ge a (hS G) with l | l
    · exact absurd (ow0 a (Or.inl l)) q
    · exact l
  · by_cases c : hS G ≤ a ∧ a < hS G + 6
    · have : own a = a - hS G + 1 := if_pos c
      omega
    · rw [ow0 a (by omega)] at q; exact absurd q (by decide)
  · by_cases c : hS G ≤ a ∧ a < hS G + 6
    · have kinds : a = hS G ∨ a = hS G + 1 ∨ a = hS G + 2 ∨ a = hS G + 3 ∨ a = hS G + 4 ∨ a = hS G + 5 := by omega
      exfalso
      rcases kinds with e | e | e | e | e | e
      · rw [e, kq] at q1; omega
      · rw [e, b1.1.1] at q1; omega
      · rw [e, show hK r (hS G + 2) = 3 from b2.1.1] at q1; omega
      · rw [e, show hK r (hS G + 3) = 4 from d1] at q1; omega
      · rw [e, show hK r (hS G + 4) = 3 from b3.1.1] at q1; omega
      · rw [e, show hK r (hS G + 5) = 5 from b4.1] at q1; omega
    · exact Or.inl (ow0 a (by omega))
  · exact ⟨kq, hlt, ow 0 (by decide), a1, a2, a3, a4, a5, a6⟩
/-- a log's lines, at the start -/
theorem KS.lines (h : KS γ ga tr et hb S ms G) {i : Nat} (hi : i < nk S) : ∃ L, AL γ G (ga (20 + i)) L ∧ L.length = (sl S (i + 1)).length ∧ ∀ j, j < L.length → LineF G (nd L j) ((sl S (i + 1)).getD j (0, 0, 0)) ∧ γ.2 < nd L j ∧ nd L j < hS G := by
  obtain ⟨hw, hc, h3, h4, own, k⟩ := h
  obtain ⟨L, h1, h2, h5⟩ := k.2.2.2.2.2.2.2.2.1 i hi
  refine ⟨L, h1.1, h2, fun j hj => ?_⟩
  obtain ⟨l1, l2, l3, l4, l5⟩ := h5 j (by omega)
  refine ⟨⟨l1, l3, l4, l5⟩, ?_, hw.k l1 (by decide)⟩
  rcases Nat.lt_or_ge γ.2 (nd L j) with q | q
  · exact q
  · rw [k.1.1 _ q] at l2; exact absurd l2 (by decide)
theorem KS.linesH (h : KS γ ga tr et hb S ms G) : ∃ L, AL γ G (ga 5) L ∧ L.length = (sl S 0).length ∧ ∀ j, j < L.length → LineF G (nd L j) ((sl S 0).getD j (0, 0, 0)) ∧ γ.2 < nd L j ∧ nd L j < hS G := by
  obtain ⟨hw, hc, h3, h4, own, k⟩ := h
  obtain ⟨L, h1, h2, h5⟩ := k.2.2.2.2.2.1
  refine ⟨L, h1.1, h2, fun j hj => ?_⟩
  obtain ⟨l1, l2, l3, l4, l5⟩ := h5 j (by omega)
  refine ⟨⟨l1, l3, l4, l5⟩, ?_, hw.k l1 (by decide)⟩
  rcases Nat.lt_or_ge γ.2 (nd L j) with q | q
  · exact q
  · rw [k.1.1 _ q] at l2; exact absurd l2 (by decide)
theorem LineF.keep {P : Nat → Prop} {a : Nat} {l : Ln} (h : LineF G a l) (hw : Wf G) (hF : Fc P G G1) (hn : ¬ P a) : LineF G1 a l := by
  have q := hw.k h.1 (by decide)
  exact ⟨by rw [hF.kind q]; exact h.1, by rw [hF.rI q hn]; exact h.2.1, by rw [hF.rI q hn]; exact h.2.2.1, by rw [hF.rI q hn]; exact h.2.2.2⟩
/-- cells that lie before a kitchen may be frozen for it -/
theorem KS.freeze {L : List Nat} (h : KS γ ga tr et hb S ms G) (hL : ∀ a ∈ L, 28 ≤ hK G a ∧ hK G a ≤ 32 ∧ γ.2 < a ∧ ¬ hb a) : ∃ own, Kt γ G own ga tr et hb S ms ∧ ∀ a ∈ L, own a = 9 := by
  obtain ⟨hw, hc, h3, h4, own, k⟩ := h
  have hLo : ∀ a ∈ L, own a = 0 ∨ own a = 9 := fun a ha => by
    by_cases c : own a = 0
    · exact Or.inl c
    · by_cases c9 : own a = 9
      · exact Or.inr c9
      · exact absurd (k.1.2.2.1 a c c9) (hL a ha).2.2.2
  refine ⟨fun a => if a ∈ L then 9 else own a, k.re hw hc (fun a q => ?_) (fun a q => ?_), fun a ha => if_pos ha⟩
  · by_cases c : a ∈ L
    · show (if a ∈ L then 9 else own a) = own a
      rw [if_pos c]
      rcases hLo a c with e | e
      · exact absurd e q
      · exact e.symm
    · exact if_neg c
  · by_cases c : a ∈ L
    · right
      exact ⟨if_pos c, (hL a c).1, (hL a c).2.1, (hL a c).2.2.1⟩
    · left
      show (if a ∈ L then 9 else own a) = 0
      rw [if_neg c]; exact q
end C23
