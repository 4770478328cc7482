section KEEP
variable {γ : GP} {G G1 : AH} {own own1 ga : Nat → Nat} {tr : Nat → List Nat} {et : Nat → Nat → Nat} {S : St} {P : Nat → Prop}
theorem Wf.k {a c : Nat} (hw : Wf G) (h : hK G a = c) (hc : c ≠ 0) : a < hS G := (hw.2 a (by rw [h]; exact hc)).2
theorem ALo.keep {x t : Nat} {L : List Nat} (h : ALo γ G own x t L) (ht : t ≠ 0) (hw : Wf G) (hF : Fc P G G1) (ho : ∀ a, a < hS G → own a ≠ 0 → own1 a = own a) (hn : ∀ a, own a = t → ¬ P a) : ALo γ G1 own1 x t L := by
  obtain ⟨h1, h2, h3⟩ := h
  have k := AL.keepC hw hF h1 (hn x h2) (fun q => hn _ (h3 q))
  refine ⟨k.1, by rw [ho x (hw.k h1.1 (by decide)) (by rw [h2]; exact ht)]; exact h2, fun q => ?_⟩
  rw [k.2] at q ⊢
  rw [ho _ (hw.k h1.2.2.2.1 (by decide)) (by rw [h3 q]; exact ht)]
  exact h3 q
theorem LineR.keep {a : Nat} {l : Ln} (h : LineR γ G own a l) (hw : Wf G) (hF : Fc P G G1) (ho : ∀ a, a < hS G → own a ≠ 0 → own1 a = own a) (hn : ∀ a, own a = 9 → ¬ P a) : LineR γ G1 own1 a l := by
  obtain ⟨h1, h2, h3, h4, h5⟩ := h
  have l := hw.k h1 (by decide)
  have n := hn a h2
  exact ⟨by rw [hF.kind l]; exact h1, by rw [ho a l (by rw [h2]; decide)]; exact h2, by rw [hF.rI l n]; exact h3, by rw [hF.rI l n]; exact h4, by rw [hF.rI l n]; exact h5⟩
theorem LogR.keep {x t : Nat} {ls : List Ln} (h : LogR γ G own x t ls) (ht : t ≠ 0) (hw : Wf G) (hF : Fc P G G1) (ho : ∀ a, a < hS G → own a ≠ 0 → own1 a = own a) (hn : ∀ a, own a = t → ¬ P a) (hn9 : ∀ a, own a = 9 → ¬ P a) : LogR γ G1 own1 x t ls := by
  obtain ⟨L, h1, h2, h3⟩ := h
  exact ⟨L, h1.keep ht hw hF ho hn, h2, fun i hi => (h3 i hi).keep hw hF ho hn9⟩
theorem MsgR.keep {a : Nat} {m : Ms} (h : MsgR γ G own a m) (hw : Wf G) (hF : Fc P G G1) (ho : ∀ a, a < hS G → own a ≠ 0 → own1 a = own a) (hn : ∀ a, own a = 9 → ¬ P a) : MsgR γ G1 own1 a m := by
  obtain ⟨h0, h1⟩ := h
  have n := hn a h0
  have l : a < hS G := by
    rcases h1 with h | h | h | h
    · exact hw.k h.2.1 (by decide)
    · exact hw.k h.2.1 (by decide)
    · exact hw.k h.2.1 (by decide)
    · exact hw.k h.2.1 (by decide)
  refine ⟨by rw [ho a l (by rw [h0]; decide)]; exact h0, ?_⟩
  rw [hF.kind l, hF.rI l n, hF.rI l n, hF.rI l n, hF.rI l n, hF.rI l n, hF.rI l n, hF.rI l n, hF.rI l n, hF.rI l n, hF.rI l n, hF.rI l n, hF.rI l n, hF.rI l n, hF.rI l n]
  exact h1
theorem MsgsR.keep {x t : Nat} {ms : List Ms} (h : MsgsR γ G own x t ms) (ht : t ≠ 0) (hw : Wf G) (hF : Fc P G G1) (ho : ∀ a, a < hS G → own a ≠ 0 → own1 a = own a) (hn : ∀ a, own a = t → ¬ P a) (hn9 : ∀ a, own a = 9 → ¬ P a) : MsgsR γ G1 own1 x t ms := by
  obtain ⟨ns, L, h1, h2, h3, h4, h5⟩ := h
  refine ⟨ns, L, h1.keepC hw hF (hn x h2) (fun a ha => hn a (h3 a ha)), by rw [ho x (hw.k h1.1 (by decide)) (by rw [h2]; exact ht)]; exact h2, fun a ha => ?_, h4, fun i hi => (h5 i hi).keep hw hF ho hn9⟩
  obtain ⟨i, hi, e⟩ := List.getElem_of_mem ha
  have k := (h1.2.2.2.2.2.2.2 i hi).1
  rw [nd_get hi, e] at k
  rw [ho a (hw.k k (by decide)) (by rw [h3 a ha]; exact ht)]
  exact h3 a ha
theorem K1.keep (h : K1 γ G own ga S) (hw : Wf G) (hF : Fc P G G1) (ho : ∀ a, a < hS G → own a ≠ 0 → own1 a = own a) (hn : ∀ a, own a = 1 → ¬ P a) {S1 : St} (e0 : sg S1 0 = sg S 0) (e4 : sg S1 4 = sg S 4) : K1 γ G1 own1 ga S1 := by
  obtain ⟨h1, h2, h3, h4, h5, h6, h7, h8, h9⟩ := h
  have l := hw.k h1 (by decide)
  have n := hn _ h3
  unfold K1
  rw [hF.kind l, ho _ l (by rw [h3]; omega), hF.rR l n (by decide), hF.rR l n (by decide), hF.rR l n (by decide), hF.rR l n (by decide), hF.rI l n, hF.rI l n, e0, e4]
  exact ⟨h1, h2, h3, h4, h5, h6, h7, h8, h9⟩
theorem K4.keep (h : K4 γ G own ga S) (hw : Wf G) (hF : Fc P G G1) (ho : ∀ a, a < hS G → own a ≠ 0 → own1 a = own a) (hn : ∀ a, own a = 4 → ¬ P a) {S1 : St} (e3 : sg S1 3 = sg S 3) : K4 γ G1 own1 ga S1 := by
  obtain ⟨h1, h2, h3, h4, h5⟩ := h
  have l := hw.k h1 (by decide)
  have n := hn _ h3
  unfold K4
  rw [hF.kind l, ho _ l (by rw [h3]; omega), hF.rR l n (by decide), hF.rI l n, e3]
  exact ⟨h1, h2, h3, h4, h5⟩
theorem KC.keep {i : Nat} (h : KC γ G own ga S i) (hw : Wf G) (hF : Fc P G G1) (ho : ∀ a, a < hS G → own a ≠ 0 → own1 a = own a) (hn : ∀ a, own a = 10 + i → ¬ P a) {S1 : St} (e0 : sk S1 i 0 = sk S i 0) (e1 : sk S1 i 1 = sk S i 1) : KC γ G1 own1 ga S1 i := by
  obtain ⟨h1, h2, h3, h4, h5, h6, h7, h8, h9⟩ := h
  have l := hw.k h1 (by decide)
  have n := hn _ h3
  unfold KC
  rw [hF.kind l, ho _ l (by rw [h3]; omega), hF.rR l n (by decide), hF.rR l n (by decide), hF.rR l n (by decide), hF.rR l n (by decide), hF.rI l n, hF.rI l n, e0, e1]
  exact ⟨h1, h2, h3, h4, h5, h6, h7, h8, h9⟩
theorem KA.keep {i b : Nat} (h : KA γ G own ga S i b) (hw : Wf G) (hF : Fc P G G1) (ho : ∀ a, a < hS G → own a ≠ 0 → own1 a = own a) (hn : ∀ a, own a = 30 + 3 * i + b → ¬ P a) {S1 : St} (e : ∀ y, y < 4 → sk S1 i (3 + 4 * b + y) = sk S i (3 + 4 * b + y)) : KA γ G1 own1 ga S1 i b := by
  obtain ⟨h1, h2, h3, h4, h5⟩ := h
  have l := hw.k h1 (by decide)
  have n := hn _ h4
  refine ⟨by rw [hF.kind l]; exact h1, by rw [hF.rL l]; exact h2, h3, by rw [ho _ l (by rw [h4]; omega)]; exact h4, fun y hy => ?_⟩
  rw [hF.rA l n, e y hy]; exact h5 y hy
theorem KO.keep {j : Nat} (h : KO γ G own ga S j) (hw : Wf G) (hF : Fc P G G1) (ho : ∀ a, a < hS G → own a ≠ 0 → own1 a = own a) (hn : ∀ a, own a = 60 + j → ¬ P a) {S1 : St} (e0 : sc S1 j 0 = sc S j 0) (e1 : sc S1 j 1 = sc S j 1) (e2 : sc S1 j 2 = sc S j 2) (ev : sv S1 j = sv S j) : KO γ G1 own1 ga S1 j := by
  obtain ⟨h1, h2, h3, h4, h5, h6, h7, h8⟩ := h
  have l := hw.k h1 (by decide)
  have n := hn _ h3
  unfold KO
  rw [hF.kind l, ho _ l (by rw [h3]; omega), hF.rR l n (by decide), hF.rI l n, hF.rI l n, hF.rI l n, hF.rI l n, e0, e1, e2, ev]
  exact ⟨h1, h2, h3, h4, h5, h6, h7, h8⟩
theorem KT.keep {j : Nat} (h : KT γ G own ga tr et S j) (hw : Wf G) (hw1 : Wf G1) (hc : Cn γ G) (hF : Fc P G G1) (hlow : ∀ a, P a → γ.2 < a) (ho : ∀ a, a < hS G → own a ≠ 0 → own1 a = own a) (hn : ∀ a, own a = 70 + j → ¬ P a) {S1 : St} (e : ∀ d, d < 6 → sc S1 j (4 + 4 * d) = sc S j (4 + 4 * d)) : KT γ G1 own1 ga tr et S1 j := by
  obtain ⟨h1, h2, h3, h4, h5⟩ := h
  have l := hw.k h1.at0.1 (by decide)
  have hd : ∀ d, d < 6 → (isD S1 j d ↔ isD S j d) := fun d hd => by
    unfold isD
    rw [e d hd]
  have t := h1.keepC hw1 hF hlow hc.b9 (hn _ h3) (fun i hi ti => hn _ (h4 i hi (of_decide_eq_true (by rw [← h5 i hi]; exact ti))))
  have t' : TM γ G1 (ga (70 + j)) (tr j) (dmp S1 ga j) (et j) := by
    obtain ⟨q1, q2, φ, q3, q4, q5, q6⟩ := t
    have em : ∀ d, d < 6 → dmp S1 ga j d = dmp S ga j d := fun d hd' => by
      unfold dmp
      by_cases c : isD S j d
      · rw [if_pos c, if_pos ((hd d hd').mpr c)]
      · rw [if_neg c, if_neg (fun k => c ((hd d hd').mp k))]
    exact ⟨q1, fun i hi ht => by rw [em i hi]; exact q2 i hi ht, φ, q3, q4, q5, fun i hi ht => by rw [em i hi]; exact q6 i hi ht⟩
  refine ⟨t', hF.2 _ h1.at0.1 h2, by rw [ho _ l (by rw [h3]; omega)]; exact h3, fun d hd6 hx => ?_, fun d hd6 => ?_⟩
  · have hx' := (hd d hd6).mp hx
    have te : th (tr j) d = true := by rw [h5 d hd6]; exact decide_eq_true hx'
    rw [ho _ (hw.k (h1.ent hd6 te).1 (by decide)) (by rw [h4 d hd6 hx']; omega)]
    exact h4 d hd6 hx'
  · rw [h5 d hd6]
    exact decide_eq_decide.mpr (hd d hd6).symm
theorem KD.keep {j d : Nat} (h : KD γ G own ga S j d) (hw : Wf G) (hF : Fc P G G1) (ho : ∀ a, a < hS G → own a ≠ 0 → own1 a = own a) (hn : ∀ a, own a = 80 + 6 * j + d → ¬ P a) {S1 : St} (e0 : sc S1 j (4 + 4 * d) = sc S j (4 + 4 * d)) (e1 : sc S1 j (4 + 4 * d + 1) = sc S j (4 + 4 * d + 1)) (e2 : sc S1 j (4 + 4 * d + 2) = sc S j (4 + 4 * d + 2)) (e3 : sc S1 j (4 + 4 * d + 3) = sc S j (4 + 4 * d + 3)) : KD γ G1 own1 ga S1 j d := by
  obtain ⟨h1, h2, h3, h4, h5, h6, h7, h8⟩ := h
  have l := hw.k h1 (by decide)
  have n := hn _ h3
  unfold KD
  rw [hF.kind l, ho _ l (by rw [h3]; omega), hF.rR l n (by decide), hF.rI l n, hF.rI l n, hF.rI l n, e0, e1, e2, e3]
  exact ⟨h1, h2, h3, h4, h5, h6, h7, h8⟩
end KEEP
