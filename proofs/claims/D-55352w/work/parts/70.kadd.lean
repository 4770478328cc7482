def addCk (S : St) (skn : Nat → Int32) (lln : List Ln) : St := ((nk S + 1, nc S), sg S, fun i x => if i = nk S then skn x else sk S i x, sc S, fun w => if w = nk S + 1 then lln else sl S w, sv S)
def gaCk (ga : Nat → Nat) (n c l : Nat) (a : Nat → Nat) : Nat → Nat := fun t => if t = 10 + n then c else if t = 20 + n then l else if 30 + 3 * n ≤ t ∧ t < 33 + 3 * n then a (t - (30 + 3 * n)) else ga t
section KADD
variable {γ : GP} {G G1 : AH} {own own1 ga : Nat → Nat} {tr : Nat → List Nat} {et : Nat → Nat → Nat} {S : St} {hb : Nat → Prop} {ms : List Ms}
/-- tags given anew to what had none: 9 to lines and messages -/
theorem Kt.re (k : Kt γ G own ga tr et hb S ms) (hw : Wf G) (hc : Cn γ G) (h0 : ∀ a, own a ≠ 0 → own1 a = own a) (h1 : ∀ a, own a = 0 → own1 a = 0 ∨ (own1 a = 9 ∧ 28 ≤ hK G a ∧ hK G a ≤ 32 ∧ γ.2 < a)) : Kt γ G own1 ga tr et hb S ms := by
  obtain ⟨⟨b1, b2, b3, b4, b5⟩, k1, k2, k3, k4, k5, k6, kc, kl, ka, ko, kt, kd⟩ := k
  have hF : Fc (fun _ => False) G G := Fc.refl _ _
  have ho : ∀ a, a < hS G → own a ≠ 0 → own1 a = own a := fun a _ q => h0 a q
  have n : ∀ t : Nat, ∀ a, own a = t → ¬ False := fun t a q p => p
  refine ⟨⟨fun a ha => ?_, fun a ha => ?_, fun a q q9 => ?_, b4, b5.1, fun a q => ?_, fun a q1 q2 => ?_⟩, k1.keep hw hF ho (n 1) rfl rfl, k2.keep (by decide) hw hF ho (n 2), k3.keep (by decide) hw hF ho (n 3), k4.keep hw hF ho (n 4) rfl, k5.keep (by decide) hw hF ho (n 5) (n 9), k6.keep (by decide) hw hF ho (n 6) (n 9),
    fun i hi => (kc i hi).keep hw hF ho (n _) rfl rfl, fun i hi => (kl i hi).keep (by omega) hw hF ho (n _) (n 9), fun i hi b hbb => (ka i hi b hbb).keep hw hF ho (n _) (fun _ _ => rfl), fun j hj => (ko j hj).keep hw hF ho (n _) rfl rfl rfl rfl, fun j hj => (kt j hj).keep hw hw hc hF (fun a p => p.elim) ho (n _) (fun _ _ => rfl), fun j hj d hd hx => (kd j hj d hd hx).keep hw hF ho (n _) rfl rfl rfl rfl⟩
  · rcases h1 a (b1 a ha) with q | q
    · exact q
    · omega
  · rcases h1 a (b2 a ha) with q | q
    · exact q
    · have := (hw.2 a (by omega)).2
      omega
  · by_cases c : own a = 0
    · rcases h1 a c with w | w
      · exact absurd w q
      · exact absurd w.1 q9
    · rw [h0 a c] at q q9
      exact b3 a q q9
  · by_cases c : own a = 0
    · rcases h1 a c with w | w
      · rw [w] at q; exact absurd q (by decide)
      · exact ⟨w.2.1, w.2.2.1⟩
    · rw [h0 a c] at q
      exact b5.2.1 a q
  · by_cases c : own a = 0
    · rcases h1 a c with w | w
      · exact Or.inl w
      · exact Or.inr w.1
    · rw [h0 a c]; exact b5.2.2 a q1 q2
theorem Kt.addCook {c l : Nat} {a : Nat → Nat} {skn : Nat → Int32} {lln : List Ln} {LL : List Nat} (k : Kt γ G own ga tr et hb S ms) (hw : Wf G) (hc : Cn γ G) (hB : ∀ b, hS G ≤ b → hb b) (hn : nk S < 6)
    (c1 : hK G c = 16 ∧ γ.2 < c ∧ own c = 0 ∧ hb c) (c2 : hI G 76 c = skn 0 ∧ hI G 17 c = skn 1 ∧ hR G 18 c = l ∧ hR G 77 c = a 0 ∧ hR G 78 c = a 1 ∧ hR G 79 c = a 2)
    (l1 : AL γ G l LL ∧ own l = 0 ∧ hb l ∧ (γ.2 < hR G 15 l → own (hR G 15 l) = 0 ∧ hb (hR G 15 l))) (l2 : LL.length = lln.length ∧ ∀ i, i < lln.length → LineR γ G own (nd LL i) (lln.getD i (0, 0, 0)))
    (a1 : ∀ b, b < 3 → hK G (a b) = 101 ∧ hL G (a b) = 4 ∧ γ.2 < a b ∧ own (a b) = 0 ∧ hb (a b) ∧ ∀ y, y < 4 → hA G (a b) y = skn (3 + 4 * b + y)) (a2 : a 0 ≠ a 1 ∧ a 0 ≠ a 2 ∧ a 1 ≠ a 2) :
    wp (f_J2_add γ (ga 2) c G) (fun r => ∃ own1, Kt γ r.2 own1 (gaCk ga (nk S) c l a) tr et hb (addCk S skn lln) ms ∧ Fc (fun b => own b = 2) G r.2 ∧ Wf r.2 ∧ hS r.2 ≤ hS G + 1 ∧ hM r.2 ≤ hM G + 22 ∧ (∀ b, own b ≠ 0 → own1 b = own b)) := by
  have k0 := k
  obtain ⟨⟨b1, b2, b3, b4, b5⟩, k1, k2, k3, k4, k5, k6, kc, kl, ka, ko, kt, kd⟩ := k
  have hlt := hc.lt
  have hlen : (cks ga (nk S)).length = nk S := len2
  refine wp_mono (AL.push hw hlt k2.1 (v := c) (by rw [c1.1]; decide) (by omega)) (fun r hr => ?_)
  obtain ⟨r1, r2, r3, r4, r5, r6, r7, r8⟩ := hr
  have lc := hw.k c1.1 (by decide)
  have ll := hw.k l1.1.1 (by decide)
  have la : ∀ b, b < 3 → a b < hS G := fun b hb2 => hw.k (a1 b hb2).1 (by decide)
  have lar := hw.k l1.1.2.2.2.1 (by decide)
  have l2x := hw.k k2.1.1 (by decide)
  have l2q := hw.k k2.1.2.2.2.1 (by decide)
  have fc : Fc (fun b => own b = 2) G r.2 := (r4.toC hw (fun b _ e => by
    rcases e with e | e
    · rw [e, k2.1.1]; decide
    · rw [e.1, k2.1.2.2.2.1]; decide)).mono (fun b _ e => by
    rcases e with e | e
    · rw [e]; exact k2.2.1
    · rw [e.1]; exact k2.2.2 (by rw [← e.1]; exact e.2))
  have hF := fc
  let own1 : Nat → Nat := fun b => if b < hS G then (if b = c then 10 + nk S else if b = l ∨ (b = hR G 15 l ∧ γ.2 < b) then 20 + nk S else if b = a 0 then 30 + 3 * nk S else if b = a 1 then 31 + 3 * nk S else if b = a 2 then 32 + 3 * nk S else own b) else if b < hS r.2 ∧ ¬ (28 ≤ hK r.2 b ∧ hK r.2 b ≤ 32) then 2 else 0
  have z : ∀ b, own b ≠ 0 → b ≠ c ∧ ¬ (b = l ∨ (b = hR G 15 l ∧ γ.2 < b)) ∧ b ≠ a 0 ∧ b ≠ a 1 ∧ b ≠ a 2 := fun b q => by
    refine ⟨fun e => q (by rw [e]; exact c1.2.2.1), fun e => ?_, fun e => q (by rw [e]; exact (a1 0 (by decide)).2.2.2.1), fun e => q (by rw [e]; exact (a1 1 (by decide)).2.2.2.1), fun e => q (by rw [e]; exact (a1 2 (by decide)).2.2.2.1)⟩
    rcases e with e | e
    · exact q (by rw [e]; exact l1.2.1)
    · exact q (by rw [e.1]; exact (l1.2.2.2 (by rw [← e.1]; exact e.2)).1)
  have hoo : ∀ b, own b ≠ 0 → own1 b = own b := fun b q => by
    have l : b < hS G := by
      rcases Nat.lt_or_ge b (hS G) with w | w
      · exact w
      · exact absurd (b2 b w) q
    obtain ⟨z1, z2, z3, z4, z5⟩ := z b q
    show (if b < hS G then _ else _) = _
    rw [if_pos l, if_neg z1, if_neg z2, if_neg z3, if_neg z4, if_neg z5]
  have ho : ∀ b, b < hS G → own b ≠ 0 → own1 b = own b := fun b _ q => hoo b q
  have oc : own1 c = 10 + nk S := by
    show (if c < hS G then _ else _) = _
    rw [if_pos lc, if_pos rfl]
  have ncl : l ≠ c := fun e => by have := l1.1.1; rw [e, c1.1] at this; exact absurd this (by decide)
  have ol : own1 l = 20 + nk S := by
    show (if l < hS G then _ else _) = _
    rw [if_pos ll, if_neg ncl, if_pos (Or.inl rfl)]
  have oar : γ.2 < hR G 15 l → own1 (hR G 15 l) = 20 + nk S := fun q => by
    show (if hR G 15 l < hS G then _ else _) = _
    rw [if_pos lar, if_neg (fun e => by have := l1.1.2.2.2.1; rw [e, c1.1] at this; exact absurd this (by decide)), if_pos (Or.inr ⟨rfl, q⟩)]
  have oa : ∀ b, b < 3 → own1 (a b) = 30 + 3 * nk S + b := fun b hb2 => by
    have k101 := (a1 b hb2).1
    have e1 : a b ≠ c := fun e => by rw [e, c1.1] at k101; exact absurd k101 (by decide)
    have e2 : ¬ (a b = l ∨ (a b = hR G 15 l ∧ γ.2 < a b)) := fun e => by
      rcases e with e | e
      · rw [e, l1.1.1] at k101; exact absurd k101 (by decide)
      · rw [e.1, l1.1.2.2.2.1] at k101; exact absurd k101 (by decide)
    show (if a b < hS G then _ else _) = _
    rw [if_pos (la b hb2), if_neg e1, if_neg e2]
    have hb3 : b = 0 ∨ b = 1 ∨ b = 2 := by omega
    rcases hb3 with e | e | e <;> subst e
    · rw [if_pos rfl]; omega
    · rw [if_neg (fun e => a2.1 e.symm), if_pos rfl]; omega
    · rw [if_neg (fun e => a2.2.1 e.symm), if_neg (fun e => a2.2.2 e.symm), if_pos rfl]; omega
  have hg : ∀ t, t ≠ 10 + nk S → t ≠ 20 + nk S → (t < 30 + 3 * nk S ∨ 33 + 3 * nk S ≤ t) → gaCk ga (nk S) c l a t = ga t := fun t h1 h2 h3 => by
    unfold gaCk
    rw [if_neg h1, if_neg h2, if_neg (by omega)]
  have g10 : gaCk ga (nk S) c l a (10 + nk S) = c := if_pos rfl
  have g20 : gaCk ga (nk S) c l a (20 + nk S) = l := by
    unfold gaCk
    rw [if_neg (by omega), if_pos rfl]
  have g30 : ∀ b, b < 3 → gaCk ga (nk S) c l a (30 + 3 * nk S + b) = a b := fun b hb2 => by
    unfold gaCk
    rw [if_neg (by omega), if_neg (by omega), if_pos (by omega), show 30 + 3 * nk S + b - (30 + 3 * nk S) = b from by omega]
  have nt : ∀ t, t ≠ 2 → ∀ b, own b = t → ¬ own b = 2 := fun t h1 b q p => h1 (by rw [← q, p])
  have np : ∀ b, own b = 0 → ¬ own b = 2 := fun b q p => by omega
  refine ⟨own1, ⟨⟨fun b hb2 => ?_, fun b hb2 => ?_, fun b q q9 => ?_, by show nk S + 1 ≤ 6; omega, b5.1, fun b q => ?_, fun b q1 q2 => ?_⟩, ?_, ?_, ?_, ?_, ?_, ?_, ?_, ?_, ?_, ?_, ?_, ?_⟩, fc, r5, r6, by omega, hoo⟩
  · have hlb : b < hS G := by omega
    show (if b < hS G then _ else _) = _
    rw [if_pos hlb, if_neg (by have := c1.2.1; omega), if_neg (fun e => by
      rcases e with e | e
      · have := l1.1.2.1; omega
      · omega), if_neg (by have := (a1 0 (by decide)).2.2.1; omega), if_neg (by have := (a1 1 (by decide)).2.2.1; omega), if_neg (by have := (a1 2 (by decide)).2.2.1; omega)]
    exact b1 b hb2
  · have := r4.1
    show (if b < hS G then _ else _) = _
    rw [if_neg (by omega), if_neg (by omega)]
  · rcases Nat.lt_or_ge b (hS G) with w | w
    · have qq : (if b = c then 10 + nk S else if b = l ∨ (b = hR G 15 l ∧ γ.2 < b) then 20 + nk S else if b = a 0 then 30 + 3 * nk S else if b = a 1 then 31 + 3 * nk S else if b = a 2 then 32 + 3 * nk S else own b) = own1 b := by
        show _ = (if b < hS G then _ else _)
        rw [if_pos w]
      rw [← qq] at q q9
      by_cases e1 : b = c
      · rw [e1]; exact c1.2.2.2
      rw [if_neg e1] at q q9
      by_cases e2 : b = l ∨ (b = hR G 15 l ∧ γ.2 < b)
      · rcases e2 with e | e
        · rw [e]; exact l1.2.2.1
        · rw [e.1]; exact (l1.2.2.2 (by rw [← e.1]; exact e.2)).2
      rw [if_neg e2] at q q9
      by_cases e3 : b = a 0
      · rw [e3]; exact (a1 0 (by decide)).2.2.2.2.1
      rw [if_neg e3] at q q9
      by_cases e4 : b = a 1
      · rw [e4]; exact (a1 1 (by decide)).2.2.2.2.1
      rw [if_neg e4] at q q9
      by_cases e5 : b = a 2
      · rw [e5]; exact (a1 2 (by decide)).2.2.2.2.1
      rw [if_neg e5] at q q9
      exact b3 b q q9
    · exact hB b w
  · rcases Nat.lt_or_ge b (hS G) with w | w
    · by_cases c0 : own b = 0
      · have qq : (if b = c then 10 + nk S else if b = l ∨ (b = hR G 15 l ∧ γ.2 < b) then 20 + nk S else if b = a 0 then 30 + 3 * nk S else if b = a 1 then 31 + 3 * nk S else if b = a 2 then 32 + 3 * nk S else own b) = own1 b := by
          show _ = (if b < hS G then _ else _)
          rw [if_pos w]
        rw [← qq, c0] at q
        exfalso
        by_cases e1 : b = c
        · rw [if_pos e1] at q; omega
        rw [if_neg e1] at q
        by_cases e2 : b = l ∨ (b = hR G 15 l ∧ γ.2 < b)
        · rw [if_pos e2] at q; omega
        rw [if_neg e2] at q
        by_cases e3 : b = a 0
        · rw [if_pos e3] at q; omega
        rw [if_neg e3] at q
        by_cases e4 : b = a 1
        · rw [if_pos e4] at q; omega
        rw [if_neg e4] at q
        by_cases e5 : b = a 2
        · rw [if_pos e5] at q; omega
        rw [if_neg e5] at q
        exact absurd q (by decide)
      · rw [hoo b c0] at q
        rw [hF.kind w]
        exact b5.2.1 b q
    · have qq : (if b < hS r.2 ∧ ¬ (28 ≤ hK r.2 b ∧ hK r.2 b ≤ 32) then 2 else 0) = own1 b := by
        show _ = (if b < hS G then _ else _)
        rw [if_neg (show ¬ b < hS G by omega)]
      rw [← qq] at q
      split at q
      · exact absurd q (by decide)
      · exact absurd q (by decide)
  · rcases Nat.lt_or_ge b (hS G) with w | w
    · rw [hF.kind w] at q1 q2
      rcases b5.2.2 b q1 q2 with o | o
      · left
        show (if b < hS G then _ else _) = _
        have f1 : ∀ x cc, hK G x = cc → (cc < 28 ∨ 32 < cc) → b ≠ x := fun x cc hx hcc e => by rw [e, hx] at q1 q2; omega
        rw [if_pos w, if_neg (f1 c 16 c1.1 (by omega)), if_neg (fun e => by
          rcases e with e | e
          · exact f1 l 3 l1.1.1 (by omega) e
          · exact f1 _ 106 l1.1.2.2.2.1 (by omega) e.1), if_neg (f1 _ 101 (a1 0 (by decide)).1 (by omega)), if_neg (f1 _ 101 (a1 1 (by decide)).1 (by omega)), if_neg (f1 _ 101 (a1 2 (by decide)).1 (by omega))]
        exact o
      · right
        rw [hoo b (by rw [o]; decide)]; exact o
    · left
      show (if b < hS G then _ else _) = _
      rw [if_neg (by omega), if_neg (fun e => e.2 ⟨q1, q2⟩)]
  · have := k1.keep hw hF ho (nt 1 (by decide)) (S1 := addCk S skn lln) rfl rfl
    unfold K1
    rw [hg 1 (by omega) (by omega) (by omega), hg 2 (by omega) (by omega) (by omega), hg 3 (by omega) (by omega) (by omega), hg 4 (by omega) (by omega) (by omega), hg 6 (by omega) (by omega) (by omega)]
    exact this
  · have e2 : cks (gaCk ga (nk S) c l a) (nk S + 1) = cks ga (nk S) ++ [c] := by
      unfold cks
      rw [List.range_succ, List.map_append, List.map_singleton, g10]
      congr 1
      refine List.map_congr_left (fun i hi => ?_)
      have := List.mem_range.mp hi
      exact hg _ (by omega) (by omega) (by omega)
    show ALo γ r.2 own1 (gaCk ga (nk S) c l a 2) 2 (cks (gaCk ga (nk S) c l a) (nk S + 1))
    rw [e2, hg 2 (by omega) (by omega) (by omega)]
    refine ⟨r2, by rw [hoo _ (by rw [k2.2.1]; decide)]; exact k2.2.1, fun q => ?_⟩
    rcases r3 with e | e
    · rw [e] at q ⊢
      rw [hoo _ (by rw [k2.2.2 q]; decide)]; exact k2.2.2 q
    · have lq := r5.k r2.2.2.2.1 (by decide)
      have kq := r2.2.2.2.1
      rw [e] at lq kq ⊢
      show (if hS G < hS G then _ else _) = _
      rw [if_neg (Nat.lt_irrefl _), if_pos ⟨lq, by rw [kq]; decide⟩]
  · have e3 : crs (gaCk ga (nk S) c l a) (nc S) = crs ga (nc S) := List.map_congr_left (fun i hi => by
      have := List.mem_range.mp hi
      exact hg _ (by omega) (by omega) (by omega))
    show ALo γ r.2 own1 (gaCk ga (nk S) c l a 3) 3 (crs (gaCk ga (nk S) c l a) (nc S))
    rw [e3, hg 3 (by omega) (by omega) (by omega)]
    exact k3.keep (by decide) hw hF ho (nt 3 (by decide))
  · have := k4.keep hw hF ho (nt 4 (by decide)) (S1 := addCk S skn lln) rfl
    unfold K4
    rw [hg 4 (by omega) (by omega) (by omega), hg 5 (by omega) (by omega) (by omega)]
    exact this
  · rw [hg 5 (by omega) (by omega) (by omega)]
    show LogR γ r.2 own1 (ga 5) 5 (if 0 = nk S + 1 then lln else sl S 0)
    rw [if_neg (by omega)]
    exact k5.keep (by decide) hw hF ho (nt 5 (by decide)) (nt 9 (by decide))
  · rw [hg 6 (by omega) (by omega) (by omega)]
    exact k6.keep (by decide) hw hF ho (nt 6 (by decide)) (nt 9 (by decide))
  · intro i hi
    have hi2 : i < nk S + 1 := hi
    by_cases e : i = nk S
    · subst e
      unfold KC
      rw [g10, g20, show 30 + 3 * nk S = 30 + 3 * nk S + 0 from rfl, g30 0 (by decide), g30 1 (by decide), g30 2 (by decide)]
      have n2 := np c c1.2.2.1
      refine ⟨by rw [hF.kind lc]; exact c1.1, c1.2.1, oc, ?_, ?_, by rw [hF.rR lc n2 (by decide)]; exact c2.2.2.1, by rw [hF.rR lc n2 (by decide)]; exact c2.2.2.2.1, by rw [hF.rR lc n2 (by decide)]; exact c2.2.2.2.2.1, by rw [hF.rR lc n2 (by decide)]; exact c2.2.2.2.2.2⟩
      · rw [hF.rI lc n2, c2.1]
        exact (if_pos rfl).symm
      · rw [hF.rI lc n2, c2.2.1]
        exact (if_pos rfl).symm
    · have := (kc i (by omega)).keep hw hF ho (nt (10 + i) (by omega)) (S1 := addCk S skn lln) (if_neg e) (if_neg e)
      unfold KC
      rw [hg (10 + i) (by omega) (by omega) (by omega), hg (20 + i) (by omega) (by omega) (by omega), hg (30 + 3 * i) (by omega) (by omega) (by omega), hg (30 + 3 * i + 1) (by omega) (by omega) (by omega), hg (30 + 3 * i + 2) (by omega) (by omega) (by omega)]
      exact this
  · intro i hi
    have hi2 : i < nk S + 1 := hi
    show LogR γ r.2 own1 _ _ (if i + 1 = nk S + 1 then lln else sl S (i + 1))
    by_cases e : i = nk S
    · subst e
      rw [g20, if_pos rfl]
      have n2 := np l l1.2.1
      have kp := AL.keepC hw hF l1.1 n2 (fun q => np _ (l1.2.2.2 q).1)
      refine ⟨LL, ⟨kp.1, ol, fun q => ?_⟩, l2.1, fun i hi => (l2.2 i hi).keep hw hF ho (nt 9 (by decide))⟩
      rw [kp.2] at q ⊢
      exact oar q
    · rw [if_neg (by omega), hg (20 + i) (by omega) (by omega) (by omega)]
      exact (kl i (by omega)).keep (by omega) hw hF ho (nt (20 + i) (by omega)) (nt 9 (by decide))
  · intro i hi b hb2
    have hi2 : i < nk S + 1 := hi
    by_cases e : i = nk S
    · subst e
      unfold KA
      rw [g30 b hb2]
      obtain ⟨x1, x2, x3, x4, x5, x6⟩ := a1 b hb2
      have n2 := np _ x4
      refine ⟨by rw [hF.kind (la b hb2)]; exact x1, by rw [hF.rL (la b hb2)]; exact x2, x3, oa b hb2, fun y hy => ?_⟩
      rw [hF.rA (la b hb2) n2, x6 y hy]
      exact (if_pos rfl).symm
    · have := (ka i (by omega) b hb2).keep hw hF ho (nt _ (by omega)) (S1 := addCk S skn lln) (fun y hy => if_neg e)
      unfold KA
      rw [hg (30 + 3 * i + b) (by omega) (by omega) (by omega)]
      exact this
  · intro j hj
    have hj2 : j < nc S := hj
    have := (ko j hj).keep hw hF ho (nt (60 + j) (by omega)) (S1 := addCk S skn lln) rfl rfl rfl rfl
    unfold KO
    rw [hg (60 + j) (by omega) (by omega) (by omega), hg (70 + j) (by omega) (by omega) (by omega)]
    exact this
  · intro j hj
    have hj2 : j < nc S := hj
    have hlow : ∀ b, own b = 2 → γ.2 < b := fun b q => by
      rcases Nat.lt_or_ge γ.2 b with w | w
      · exact w
      · rw [b1 b w] at q; exact absurd q (by decide)
    have kk := (kt j hj).keep hw r5 hc hF hlow ho (nt (70 + j) (by omega)) (S1 := addCk S skn lln) (fun _ _ => rfl)
    unfold KT at kk ⊢
    have ed : dmp (addCk S skn lln) (gaCk ga (nk S) c l a) j = dmp (addCk S skn lln) ga j ∨ True := Or.inr trivial
    rw [hg (70 + j) (by omega) (by omega) (by omega)]
    obtain ⟨t1, t2, t3, t4, t5⟩ := kk
    refine ⟨?_, t2, t3, t4, t5⟩
    obtain ⟨q1, q2, φ, q3, q4, q5, q6⟩ := t1
    have em : ∀ d, d < 6 → dmp (addCk S skn lln) (gaCk ga (nk S) c l a) j d = dmp (addCk S skn lln) ga j d := fun d hd' => by
      unfold dmp
      rw [hg (80 + 6 * j + d) (by omega) (by omega) (by omega)]
    exact ⟨q1, fun i hi ht => by rw [em i hi]; exact q2 i hi ht, φ, q3, q4, q5, fun i hi ht => by rw [em i hi]; exact q6 i hi ht⟩
  · intro j hj d hd hx
    have hj2 : j < nc S := hj
    have := (kd j hj d hd hx).keep hw hF ho (nt (80 + 6 * j + d) (by omega)) (S1 := addCk S skn lln) rfl rfl rfl rfl
    unfold KD
    rw [hg (80 + 6 * j + d) (by omega) (by omega) (by omega)]
    exact this
end KADD
