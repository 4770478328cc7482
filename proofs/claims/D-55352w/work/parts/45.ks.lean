/-! the kitchen at ga 1, with all that stands at every step; writes go to hb -/
def KS (γ : GP) (ga : Nat → Nat) (tr : Nat → List Nat) (et : Nat → Nat → Nat) (hb : Nat → Prop) (S : St) (ms : List Ms) (G : AH) : Prop := Wf G ∧ Cn γ G ∧ (∀ a, hb a → γ.2 < a) ∧ (∀ a, hS G ≤ a → hb a) ∧ ∃ own, Kt γ G own ga tr et hb S ms
def Stq (hb : Nat → Prop) (G G1 : AH) (c s : Nat) : Prop := Fc hb G G1 ∧ Wf G1 ∧ hS G1 ≤ hS G + c ∧ hM G1 ≤ hM G + s
theorem Stq.refl {hb : Nat → Prop} {G : AH} (hw : Wf G) (c s : Nat) : Stq hb G G c s := ⟨Fc.refl _ _, hw, Nat.le_add_right _ _, Nat.le_add_right _ _⟩
theorem Stq.trans {hb : Nat → Prop} {c s c1 s1 : Nat} {G G1 G2 : AH} (hw : Wf G) (h : Stq hb G G1 c s) (k : Stq hb G1 G2 c1 s1) : Stq hb G G2 (c + c1) (s + s1) :=
  ⟨h.1.trans k.1 hw (fun _ q => Or.inl q), k.2.1, by have := h.2.2.1; have := k.2.2.1; omega, by have := h.2.2.2; have := k.2.2.2; omega⟩
theorem Stq.mono {hb : Nat → Prop} {c s c1 s1 : Nat} {G G1 : AH} (h : Stq hb G G1 c s) (h1 : c ≤ c1) (h2 : s ≤ s1) : Stq hb G G1 c1 s1 := ⟨h.1, h.2.1, by have := h.2.2.1; omega, by have := h.2.2.2; omega⟩
theorem gR_ok {β : Type} {G : AH} {a f : Nat} {K : Nat → Option β} (h : okF G a f) : gR G a f K = K (hR G f a) := if_pos h
theorem gI_ok {β : Type} {G : AH} {a f : Nat} {K : Int32 → Option β} (h : okF G a f) : gI G a f K = K (hI G f a) := if_pos h
theorem gC_ok {β : Type} {G : AH} {a : Nat} {L : List Nat} {x : Option β} (h : a = 0 ∨ okC G L a) : gC G L a x = x := if_pos h
theorem gQ_ok {β : Type} {G : AH} {kd a : Nat} {i : Int32} {K : Nat → Option β} (h : okX G a kd i) : gQ G kd a i K = K (hQ G a i.toNatClampNeg) := if_pos h
theorem gA_ok {β : Type} {G : AH} {kd a : Nat} {i : Int32} {K : Int32 → Option β} (h : okX G a kd i) : gA G kd a i K = K (hA G a i.toNatClampNeg) := if_pos h
theorem okc {G : AH} {a c : Nat} {L : List Nat} (h : hK G a = c) (hc : c ∈ L) : okC G L a := by
  unfold okC
  rw [h]; exact hc
theorem okx {G : AH} {a kd n : Nat} {i : Nat} (h : hK G a = kd) (hl : hL G a = n) (hi : i < n) (hn : n < 2147483648) : okX G a kd (Int32.ofNat i) := ⟨h, fun e => by
  rcases e with e | e
  · exact i_neg (by omega) e
  · rw [hl, i_nat (by omega)] at e; omega⟩
theorem Cn.valueOf {γ : GP} {G : AH} (h : Cn γ G) {d : Nat} (hd : d < 128) : f_J21_valueOf γ (Int32.ofNat d) G = some (bx γ G d, G) := by
  unfold f_J21_valueOf jn
  dsimp only
  have e1 : ¬ Int32.ofNat d < (-128 : Int32) := by
    rw [Int32.lt_iff_toInt_lt, i_toInt (by omega)]
    have : (-128 : Int32).toInt = -128 := by decide
    omega
  have e2 : ¬ (127 : Int32) < Int32.ofNat d := by
    rw [show (127 : Int32) = Int32.ofNat 127 from rfl, i_lt (by omega) (by omega)]; omega
  rw [if_neg e1, if_neg e2, show (128 : Int32) = Int32.ofNat 128 from rfl, i_add, gQ_ok (okx h.cache.1 h.cache.2.1 (by omega) (by decide)), i_nat (by omega)]
  rfl
section KS
variable {γ : GP} {G : AH} {ga : Nat → Nat} {tr : Nat → List Nat} {et : Nat → Nat → Nat} {S : St} {hb : Nat → Prop} {ms : List Ms}
theorem KS.k1 (h : KS γ ga tr et hb S ms G) : hK G (ga 1) = 2 ∧ hR G 8 (ga 1) = ga 2 ∧ hR G 9 (ga 1) = ga 3 ∧ hR G 10 (ga 1) = ga 4 ∧ hR G 11 (ga 1) = ga 6 ∧ hI G 12 (ga 1) = sg S 0 ∧ hI G 13 (ga 1) = sg S 4 ∧ γ.2 < ga 1 := by
  obtain ⟨_, _, _, _, own, _, k, _⟩ := h
  obtain ⟨q1, q2, q3, q4, q5, q6, q7, q8, q9⟩ := k
  exact ⟨q1, q4, q5, q6, q7, q8, q9, q2⟩
theorem KS.bnd (h : KS γ ga tr et hb S ms G) : nk S ≤ 6 ∧ nc S ≤ 8 := by
  obtain ⟨_, _, _, _, own, b, _⟩ := h
  exact ⟨b.2.2.2.1, b.2.2.2.2.1⟩
theorem KS.k2 (h : KS γ ga tr et hb S ms G) : AL γ G (ga 2) (cks ga (nk S)) := by
  obtain ⟨_, _, _, _, own, _, _, k, _⟩ := h
  exact k.1
theorem KS.k3 (h : KS γ ga tr et hb S ms G) : AL γ G (ga 3) (crs ga (nc S)) := by
  obtain ⟨_, _, _, _, own, _, _, _, k, _⟩ := h
  exact k.1
theorem KS.k4 (h : KS γ ga tr et hb S ms G) : hK G (ga 4) = 4 ∧ hI G 17 (ga 4) = sg S 3 ∧ hR G 18 (ga 4) = ga 5 ∧ γ.2 < ga 4 := by
  obtain ⟨_, _, _, _, own, _, _, _, _, k, _⟩ := h
  obtain ⟨q1, q2, q3, q4, q5⟩ := k
  exact ⟨q1, q4, q5, q2⟩
theorem KS.kc (h : KS γ ga tr et hb S ms G) {i : Nat} (hi : i < nk S) : hK G (ga (10 + i)) = 16 ∧ hI G 76 (ga (10 + i)) = sk S i 0 ∧ hI G 17 (ga (10 + i)) = sk S i 1 ∧ hR G 18 (ga (10 + i)) = ga (20 + i) ∧ hR G 77 (ga (10 + i)) = ga (30 + 3 * i) ∧ hR G 78 (ga (10 + i)) = ga (30 + 3 * i + 1) ∧ hR G 79 (ga (10 + i)) = ga (30 + 3 * i + 2) ∧ γ.2 < ga (10 + i) := by
  obtain ⟨_, _, _, _, own, _, _, _, _, _, _, _, k, _⟩ := h
  obtain ⟨q1, q2, q3, q4, q5, q6, q7, q8, q9⟩ := k i hi
  exact ⟨q1, q4, q5, q6, q7, q8, q9, q2⟩
theorem KS.ka (h : KS γ ga tr et hb S ms G) {i b : Nat} (hi : i < nk S) (hbb : b < 3) : hK G (ga (30 + 3 * i + b)) = 101 ∧ hL G (ga (30 + 3 * i + b)) = 4 ∧ γ.2 < ga (30 + 3 * i + b) ∧ ∀ y, y < 4 → hA G (ga (30 + 3 * i + b)) y = sk S i (3 + 4 * b + y) := by
  obtain ⟨_, _, _, _, own, _, _, _, _, _, _, _, _, _, k, _⟩ := h
  obtain ⟨q1, q2, q3, q4, q5⟩ := k i hi b hbb
  exact ⟨q1, q2, q3, q5⟩
theorem KS.ko (h : KS γ ga tr et hb S ms G) {j : Nat} (hj : j < nc S) : hK G (ga (60 + j)) = 20 ∧ hI G 88 (ga (60 + j)) = sc S j 0 ∧ hI G 89 (ga (60 + j)) = sc S j 1 ∧ hI G 90 (ga (60 + j)) = sc S j 2 ∧ hI G 91 (ga (60 + j)) = Int32.ofNat (sv S j) ∧ hR G 87 (ga (60 + j)) = ga (70 + j) ∧ γ.2 < ga (60 + j) := by
  obtain ⟨_, _, _, _, own, _, _, _, _, _, _, _, _, _, _, k, _⟩ := h
  obtain ⟨q1, q2, q3, q4, q5, q6, q7, q8⟩ := k j hj
  exact ⟨q1, q4, q5, q6, q7, q8, q2⟩
theorem KS.kt (h : KS γ ga tr et hb S ms G) {j : Nat} (hj : j < nc S) : TM γ G (ga (70 + j)) (tr j) (dmp S ga j) (et j) ∧ VwOK G (ga (70 + j)) ∧ ∀ d, d < 6 → th (tr j) d = decide (isD S j d) := by
  obtain ⟨_, _, _, _, own, _, _, _, _, _, _, _, _, _, _, _, k, _⟩ := h
  obtain ⟨q1, q2, q3, q4, q5⟩ := k j hj
  exact ⟨q1, q2, q5⟩
theorem KS.kd (h : KS γ ga tr et hb S ms G) {j d : Nat} (hj : j < nc S) (hd : d < 6) (hx : isD S j d) : hK G (ga (80 + 6 * j + d)) = 22 ∧ hI G 93 (ga (80 + 6 * j + d)) = sc S j (4 + 4 * d) - 1 ∧ hI G 94 (ga (80 + 6 * j + d)) = sc S j (4 + 4 * d + 1) ∧ hR G 95 (ga (80 + 6 * j + d)) = howA γ (sc S j (4 + 4 * d + 2)) ∧ hI G 96 (ga (80 + 6 * j + d)) = sc S j (4 + 4 * d + 3) ∧ isHow (sc S j (4 + 4 * d + 2)) ∧ γ.2 < ga (80 + 6 * j + d) := by
  obtain ⟨_, _, _, _, own, _, _, _, _, _, _, _, _, _, _, _, _, k⟩ := h
  obtain ⟨q1, q2, q3, q4, q5, q6, q7, q8⟩ := k j hj d hd hx
  exact ⟨q1, by rw [← q4, Int32.add_sub_cancel], q5, q6, q7, q8, q2⟩
theorem KS.cook (h : KS γ ga tr et hb S ms G) {i : Nat} (hi : i < nk S) : f_X2_cook γ (ga 1) (Int32.ofNat i) G = some (ga (10 + i), G) := by
  have hL : (cks ga (nk S)).length = nk S := by rw [cks, List.length_map, List.length_range]
  have hn := h.bnd
  unfold f_X2_cook
  rw [gR_ok (okf h.k1.1 (by decide)), h.k1.2.1, if_pos h.k2.1, h.k2.get (by omega) (by omega), bR_some]
  have e : (cks ga (nk S))[i]'(by omega) = ga (10 + i) := by simp [cks]
  rw [e, gC_ok (Or.inr (okc (h.kc hi).1 (by decide)))]
theorem KS.course (h : KS γ ga tr et hb S ms G) {j : Nat} (hj : j < nc S) : f_X2_course γ (ga 1) (Int32.ofNat j) G = some (ga (60 + j), G) := by
  have hL : (crs ga (nc S)).length = nc S := by rw [crs, List.length_map, List.length_range]
  have hn := h.bnd
  unfold f_X2_course
  rw [gR_ok (okf h.k1.1 (by decide)), h.k1.2.2.1, if_pos h.k3.1, h.k3.get (by omega) (by omega), bR_some]
  have e : (crs ga (nc S))[j]'(by omega) = ga (60 + j) := by simp [crs]
  rw [e, gC_ok (Or.inr (okc (h.ko hj).1 (by decide)))]
theorem KS.of (h : KS γ ga tr et hb S ms G) {j d : Nat} (hj : j < nc S) (hd : d < 6) : f_X7_of γ (ga (60 + j)) (Int32.ofNat d) G = some (dmp S ga j d, G) := by
  unfold f_X7_of
  have k := h.ko hj
  have t := h.kt hj
  rw [gR_ok (okf k.1 (by decide)), h.2.1.valueOf (by omega), bR_some, k.2.2.2.2.2.1, if_pos t.1.at0.1, t.1.get hd, bR_some]
  refine gC_ok ?_
  unfold dmp
  by_cases c : isD S j d
  · rw [if_pos c]; exact Or.inr (okc (h.kd hj hd c).1 (by decide))
  · rw [if_neg c]; exact Or.inl rfl
theorem KS.arrival (h : KS γ ga tr et hb S ms G) {i : Nat} (hi : i < nk S) : f_X2_arrival γ (ga 1) (Int32.ofNat i) G = some (sg S 0 + sk S i 0, G) := by
  unfold f_X2_arrival f_X6_distance
  rw [gI_ok (okf h.k1.1 (by decide)), if_pos h.k1.1, h.cook hi, bR_some, if_pos (h.kc hi).1, gI_ok (okf (h.kc hi).1 (by decide)), bI_some, h.k1.2.2.2.2.2.1, (h.kc hi).2.1]
theorem KS.who0 (h : KS γ ga tr et hb S ms G) {i : Nat} (hi : i < nk S) : f_X2_who γ (ga 1) (Int32.ofNat i) G = some (ga (10 + i), G) := by
  have hn := h.bnd
  unfold f_X2_who
  rw [if_neg (fun e => by
    have := congrArg Int32.toInt e
    rw [i_toInt (by omega), show (-1 : Int32).toInt = -1 from by decide] at this
    omega)]
  rw [if_pos h.k1.1, h.cook hi, bR_some]
theorem KS.whoH (h : KS γ ga tr et hb S ms G) : f_X2_who γ (ga 1) (-1) G = some (ga 4, G) := by
  unfold f_X2_who
  rw [if_pos rfl, gR_ok (okf h.k1.1 (by decide)), h.k1.2.2.2.1]
end KS
