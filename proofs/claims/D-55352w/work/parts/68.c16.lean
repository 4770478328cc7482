section C16
variable {γ : GP} {G G1 : AH} {ga : Nat → Nat} {tr : Nat → List Nat} {et : Nat → Nat → Nat} {S : St} {hb : Nat → Prop} {ms : List Ms}
theorem KS.number {j d : Nat} (h : KS γ ga tr et hb S ms G) (hj : j < nc S) (hd : d < 6) (hx : isD S j d) : f_X8_number γ (ga (80 + 6 * j + d)) G = some (hw S j d, G) := by
  have k := h.kd hj hd hx
  have q := h.2.1.how k.2.2.2.2.2.1
  unfold f_X8_number f_J38_ordinal
  rw [gR_ok (okf k.1 (by decide)), k.2.2.2.1]
  have e : ∀ c, 37 ≤ c → c < 42 → hK G (howA γ (sc S j (4 + 4 * d + 2))) = c → gI G (howA γ (sc S j (4 + 4 * d + 2))) 130 (fun v1 => (some (v1, G) : Option (Int32 × AH))) = some (hw S j d, G) := by
    intro c h1 h2 hk
    have hf : 130 ∈ cFl c := by
      have : c = 37 ∨ c = 38 ∨ c = 39 ∨ c = 40 ∨ c = 41 := by omega
      rcases this with w | w | w | w | w <;> subst w <;> decide
    rw [gI_ok (okf hk hf), q.2.1]
    rfl
  have kk := q.1
  rcases k.2.2.2.2.2.1 with w | w | w | w | w
  · rw [w] at kk
    rw [if_pos (by rw [w]; exact kk), e 37 (by decide) (by decide) (by rw [w]; exact kk), bI_some]
  · rw [w] at kk
    rw [if_neg (by rw [w, kk]; decide), if_pos (by rw [w]; exact kk), e 38 (by decide) (by decide) (by rw [w]; exact kk), bI_some]
  · rw [w] at kk
    rw [if_neg (by rw [w, kk]; decide), if_neg (by rw [w, kk]; decide), if_pos (by rw [w]; exact kk), e 39 (by decide) (by decide) (by rw [w]; exact kk), bI_some]
  · rw [w] at kk
    rw [if_neg (by rw [w, kk]; decide), if_neg (by rw [w, kk]; decide), if_neg (by rw [w, kk]; decide), if_pos (by rw [w]; exact kk), e 40 (by decide) (by decide) (by rw [w]; exact kk), bI_some]
  · rw [w] at kk
    rw [if_neg (by rw [w, kk]; decide), if_neg (by rw [w, kk]; decide), if_neg (by rw [w, kk]; decide), if_neg (by rw [w, kk]; decide), if_pos (by rw [w]; exact kk), e 41 (by decide) (by decide) (by rw [w]; exact kk), bI_some]
theorem KS.checkOk {j d : Nat} {β : Type} {Tk : Nat → AH → Option β} {K : AH → Option β} (h : KS γ ga tr et hb S ms G) (hj : j < nc S) (hd : d < 6) (hx : isD S j d) : bXV (if hK G (ga 1) = 2 then f_X2_checkDish γ (ga 1) (Int32.ofNat d) (Int32.ofNat j) G else none) Tk K = K G := by
  have e := (h.dmp0 hj hd).1 hx
  unfold f_X2_checkDish
  rw [if_pos h.isK, if_pos h.isK, h.course hj, bR_some, if_pos (h.ko hj).1, h.of hj hd, bR_some]
  unfold jn
  dsimp only
  rw [if_neg e.2, meet_ok (by decide)]
  rfl
theorem KS.checkNo {j d : Nat} {K : AH → Option ((Int32 × AH) ⊕ (Nat × AH))} {c s : Nat} (h : KS γ ga tr et hb S ms G) (hj : j < nc S) (hd : d < 6) (hx : ¬ isD S j d) (hc1 : 1 ≤ c) (hs8 : 8 ≤ s) : wp (bXV (if hK G (ga 1) = 2 then f_X2_checkDish γ (ga 1) (Int32.ofNat d) (Int32.ofNat j) G else none) (fun e g => thr e g) K) (CmdQ γ ga tr et hb G ms c s (.inr (9, Int32.ofNat d))) := by
  have e := (h.dmp0 hj hd).2 hx
  unfold f_X2_checkDish
  rw [if_pos h.isK, if_pos h.isK, h.course hj, bR_some, if_pos (h.ko hj).1, h.of hj hd, bR_some]
  unfold jn
  dsimp only
  rw [if_pos e]
  have m : wp (bXV (f_X1_meet γ 0 9 (Int32.ofNat d) G) (fun e9 g10 => (thr e9 g10 : Option (AH ⊕ (Nat × AH)))) fun g8 => some (Sum.inl g8)) (fun r => ∃ q g, r = .inr (q, g) ∧ RefX γ g q 9 (Int32.ofNat d) ∧ hS G ≤ q ∧ Stq hb G g 1 8) :=
    meet_no h.1 h.2.1 rfl (fun q g e1 e2 e3 e4 e5 e6 => wp_some ⟨q, g, rfl, e1, e4, e2.mono (fun _ _ q => q.elim), e3, by omega, by omega⟩)
  obtain ⟨r, er, q, g, e1, e2, e3, e4⟩ := m
  rw [er, e1]
  exact wp_some ⟨q, g, rfl, e2, e3, e4.mono hc1 hs8⟩
theorem hears_D {d j : Nat} {b : Bool} {j2 d2 : Nat} : isD (hearsP S d j b) j2 d2 ↔ isD S j2 d2 := by
  unfold hearsP
  split
  · exact becomes_isD
  · split
    · exact becomes_isD
    · exact Iff.rfl
theorem hears_nc {d j : Nat} {b : Bool} : nc (hearsP S d j b) = nc S ∧ nk (hearsP S d j b) = nk S := by
  unfold hearsP
  split
  · exact ⟨rfl, rfl⟩
  · split
    · exact ⟨rfl, rfl⟩
    · exact ⟨rfl, rfl⟩
theorem KS.learns {j d o : Nat} (h : KS γ ga tr et hb S ms G) (ok : Ok S) (hj : j < nc S) (hd : d < nk S) (ho : o < nk S) : wp (f_X2_learns γ (ga 1) (Int32.ofNat d) (Int32.ofNat o) (Int32.ofNat j) G) (CmdQ γ ga tr et hb G ms 2 53 (learnsP S d o j)) := by
  have hd6 := h.nk_ hd
  have ho6 := h.nk_ ho
  unfold f_X2_learns learnsP
  by_cases xd : isD S j d
  case neg =>
    rw [if_neg xd]
    exact h.checkNo hj hd6 xd (by decide) (by decide)
  rw [if_pos xd, h.checkOk hj hd6 xd]
  by_cases xo : isD S j o
  case neg =>
    rw [if_neg xo]
    exact h.checkNo hj ho6 xo (by decide) (by decide)
  have ed := (h.dmp0 hj hd6).1 xd
  have eo := (h.dmp0 hj ho6).1 xo
  have kd := h.kd hj hd6 xd
  have ko := h.kd hj ho6 xo
  rw [if_pos xo, h.checkOk hj ho6 xo, if_pos h.isK, h.course hj, bR_some, if_pos (h.ko hj).1, h.of hj hd6, bR_some, ed.1, if_pos h.isK, h.course hj, bR_some, if_pos (h.ko hj).1, h.of hj ho6, bR_some, eo.1, if_pos kd.1, h.isReady hj hd6 xd, bI_some, if_pos kd.1, h.number hj hd6 xd, bI_some]
  by_cases c1 : hw S j d = 1
  case neg =>
    rw [if_neg c1, if_neg c1]
    exact h.refuse rfl (by decide) (by decide)
  rw [if_pos c1, if_pos c1, meet_ok (by decide), if_pos h.isK, h.cook hd, bR_some, if_pos (h.kc hd).1]
  unfold f_X3_hasFainted
  rw [gI_ok (okf (h.kc hd).1 (by decide)), (h.kc hd).2.2.1, rtB (ok.2.2.2.1 d hd), bI_some]
  unfold jn
  dsimp only
  by_cases f1 : sk S d 1 = 0
  case neg =>
    rw [if_neg f1, if_neg f1]
    exact h.refuse rfl (by decide) (by decide)
  rw [if_pos f1, if_pos f1, meet_ok (by decide), if_pos h.isK, h.cook ho, bR_some, if_pos (h.kc ho).1, gI_ok (okf (h.kc ho).1 (by decide)), (h.kc ho).2.2.1, rtB (ok.2.2.2.1 o ho), bI_some]
  by_cases f2 : sk S o 1 = 0
  case neg =>
    rw [if_neg f2, if_neg f2]
    exact h.refuse rfl (by decide) (by decide)
  rw [if_pos f2, if_pos f2, meet_ok (by decide), if_pos ko.1, h.how hj ho6 xo, bR_some]
  have hgI := (ok.2.2.1 j hj d hd6 xd).2
  have hlen := ok.1 (d + 1) (by omega)
  have yes : ∀ z : Int32, z = (if decide (hw S j o = 3) then 1 else 0) → wp (bI (if hK G (ga (80 + 6 * j + o)) = 22 then f_X8_number γ (ga (80 + 6 * j + o)) G else none) fun v50 g49 => bXV (f_X1_meet γ 1 12 v50 g49) (fun e52 g53 => thr e52 g53) fun g51 => bV (if hK g51 (ga 1) = 2 then f_X2_hears γ (ga 1) (Int32.ofNat d) (Int32.ofNat j) z g51 else none) fun g54 => bI (if hK g54 (ga (80 + 6 * j + d)) = 22 then f_X8_number γ (ga (80 + 6 * j + d)) g54 else none) fun v56 g55 => some (Sum.inl (v56, g55))) (CmdQ γ ga tr et hb G ms 2 53 (.inl (hw (hearsP S d j (decide (hw S j o = 3))) j d, hearsP S d j (decide (hw S j o = 3)), []))) := by
    intro z hz
    rw [if_pos ko.1, h.number hj ho6 xo, bI_some, meet_ok (by decide)]
    refine wp_bV (wp_ifc h.isK (wp_mono (h.hears hj hd xd hgI hlen hz) (fun r hr => ?_)))
    obtain ⟨h1, s1⟩ := hr
    have n1 := hears_nc (S := S) (d := d) (j := j) (b := decide (hw S j o = 3))
    have x1 := (hears_D (S := S) (d := d) (j := j) (b := decide (hw S j o = 3)) (j2 := j) (d2 := d)).mpr xd
    rw [if_pos (h1.kd (by rw [n1.1]; exact hj) hd6 x1).1, h1.number (by rw [n1.1]; exact hj) hd6 x1, bI_some]
    exact wp_some ⟨r, rfl, by rw [List.append_nil]; exact h1, s1⟩
  have no : ∀ z : Int32, wp (bI (if hK G (ga (80 + 6 * j + o)) = 22 then f_X8_number γ (ga (80 + 6 * j + o)) G else none) fun v62 g61 => bXV (f_X1_meet γ 0 12 v62 g61) (fun e64 g65 => thr e64 g65) fun g63 => bV (if hK g63 (ga 1) = 2 then f_X2_hears γ (ga 1) (Int32.ofNat d) (Int32.ofNat j) z g63 else none) fun g66 => bI (if hK g66 (ga (80 + 6 * j + d)) = 22 then f_X8_number γ (ga (80 + 6 * j + d)) g66 else none) fun v68 g67 => some (Sum.inl (v68, g67))) (CmdQ γ ga tr et hb G ms 2 53 (.inr (12, hw S j o))) := by
    intro z
    rw [if_pos ko.1, h.number hj ho6 xo, bI_some]
    exact h.refuse rfl (by decide) (by decide)
  have q := h.2.1.how ko.2.2.2.2.2.1
  have e3 : howA γ (hw S j o) = γ.1 6 ↔ hw S j o = 3 := h.howEq hj ho6 xo (v := 3) (Or.inr (Or.inr (Or.inr (Or.inl rfl))))
  have qk : hK G (howA γ (hw S j o)) = howK (hw S j o) := q.1
  by_cases w3 : hw S j o = 3
  · rw [if_pos (e3.mpr w3), if_neg (show ¬ (1 : Int32) = 0 by decide), if_neg (show ¬ (hw S j o = 0 ∨ hw S j o = 1) by rw [w3]; decide)]
    exact yes 1 (by rw [if_pos (decide_eq_true w3)])
  · rw [if_neg (fun e => w3 (e3.mp e)), if_pos rfl, if_pos ko.1, h.how hj ho6 xo, bR_some, qk]
    unfold f_X9_isOff
    have z0 : (0 : Int32) = (if decide (hw S j o = 3) then 1 else 0) := by rw [if_neg (by rw [decide_eq_false w3]; decide)]
    rcases ko.2.2.2.2.2.1 with w | w | w | w | w
    · have w' : hw S j o = 0 := w
      rw [if_pos (show howK (hw S j o) = 37 by rw [w']; rfl), show rtN .boolean (0 : Int32) G = some (0, G) from rfl, bI_some, if_pos rfl, if_pos (Or.inl w')]
      exact no 0
    · have w' : hw S j o = 1 := w
      rw [if_neg (show ¬ howK (hw S j o) = 37 by rw [w']; decide), if_pos (show howK (hw S j o) = 38 by rw [w']; rfl), show rtN .boolean (0 : Int32) G = some (0, G) from rfl, bI_some, if_pos rfl, if_pos (Or.inr w')]
      exact no 0
    · have w' : hw S j o = 2 := w
      rw [if_neg (show ¬ howK (hw S j o) = 37 by rw [w']; decide), if_neg (show ¬ howK (hw S j o) = 38 by rw [w']; decide), if_pos (show howK (hw S j o) = 39 by rw [w']; rfl), bI_some, if_neg (show ¬ (1 : Int32) = 0 by decide), if_neg (show ¬ (hw S j o = 0 ∨ hw S j o = 1) by rw [w']; decide)]
      exact yes 0 z0
    · exact absurd w w3
    · have w' : hw S j o = 4 := w
      rw [if_neg (show ¬ howK (hw S j o) = 37 by rw [w']; decide), if_neg (show ¬ howK (hw S j o) = 38 by rw [w']; decide), if_neg (show ¬ howK (hw S j o) = 39 by rw [w']; decide), if_neg (show ¬ howK (hw S j o) = 40 by rw [w']; decide), if_pos (show howK (hw S j o) = 41 by rw [w']; rfl), bI_some, if_neg (show ¬ (1 : Int32) = 0 by decide), if_neg (show ¬ (hw S j o = 0 ∨ hw S j o = 1) by rw [w']; decide)]
      exact yes 0 z0
end C16
