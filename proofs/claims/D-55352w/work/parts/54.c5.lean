section C5
variable {γ : GP} {G G1 : AH} {ga : Nat → Nat} {tr : Nat → List Nat} {et : Nat → Nat → Nat} {S : St} {hb : Nat → Prop} {ms : List Ms}
theorem becomes_isD {j d : Nat} {v line : Int32} {j2 d2 : Nat} : isD (becomesP S j d v line) j2 d2 ↔ isD S j2 d2 := by
  unfold isD becomesP
  show 0 < sc (usc (usc S j (4 + 4 * d + 2) v) j (4 + 4 * d + 3) (sg S 0)) j2 (4 + 4 * d2) ↔ _
  rw [sc_usc, if_neg (fun e => by omega), sc_usc, if_neg (fun e => by omega)]
theorem becomes_am {j d : Nat} {v line : Int32} {j2 d2 : Nat} : am (becomesP S j d v line) j2 d2 = am S j2 d2 := by
  unfold am becomesP
  show sc (usc (usc S j (4 + 4 * d + 2) v) j (4 + 4 * d + 3) (sg S 0)) j2 (4 + 4 * d2 + 1) = _
  rw [sc_usc, if_neg (fun e => by omega), sc_usc, if_neg (fun e => by omega)]
theorem becomes_ig {j d : Nat} {v line : Int32} {j2 d2 : Nat} : ig (becomesP S j d v line) j2 d2 = ig S j2 d2 := by
  unfold ig becomesP
  show sc (usc (usc S j (4 + 4 * d + 2) v) j (4 + 4 * d + 3) (sg S 0)) j2 (4 + 4 * d2) - 1 = _
  rw [sc_usc, if_neg (fun e => by omega), sc_usc, if_neg (fun e => by omega)]
theorem KS.serves {i ing : Nat} {v : Int32} (h : KS γ ga tr et hb S ms G) (hi : i < nk S) (hg : ing < 4) : wp (f_X6_serves γ (ga (10 + i)) (Int32.ofNat ing) v G) (fun r => KS γ ga tr et hb (servesP S i ing v) ms r ∧ Stq hb G r 0 0) := by
  have hwf := h.1
  have k := h.kc hi
  have a := h.arrG (b := 0) hi (by decide) hg
  unfold f_X6_serves
  rw [gR_ok (okf k.1 (by decide)), k.2.2.2.2.1, gA_ok (show okX G (ga (30 + 3 * i)) 101 (Int32.ofNat ing) from a.1)]
  rw [show hA G (ga (30 + 3 * i)) (Int32.ofNat ing).toNatClampNeg = sk S i (3 + ing) from a.2]
  refine h.pArr (b := 0) hi (by decide) hg (fun h1 s1 => ?_)
  have k1 := h1.kc (i := i) hi
  have a1 := h1.arrG (b := 2) hi (by decide) hg
  show wp (gR (sA G (ga (30 + 3 * i + 0)) ing (sk S i (3 + ing) - v)) (ga (10 + i)) 79 _) _
  rw [gR_ok (okf k1.1 (by decide)), k1.2.2.2.2.2.2.1, gA_ok (show okX _ (ga (30 + 3 * i + 2)) 101 (Int32.ofNat ing) from a1.1), a1.2]
  refine h1.pArr (b := 2) hi (by decide) hg (fun h2 s2 => wp_some ⟨?_, s1.trans hwf s2⟩)
  have e : sk (usk S i (3 + 4 * 0 + ing) (sk S i (3 + ing) - v)) i (3 + 4 * 2 + ing) = sk S i (11 + ing) := by
    rw [sk_usk, if_neg (fun e => by omega), show 3 + 4 * 2 + ing = 11 + ing from by omega]
  unfold servesP
  rw [e] at h2 ⊢
  rw [show 3 + 4 * 0 + ing = 3 + ing from by omega, show 3 + 4 * 2 + ing = 11 + ing from by omega] at h2
  exact h2
theorem KS.hears {j d : Nat} {b : Bool} {z : Int32} (h : KS γ ga tr et hb S ms G) (hj : j < nc S) (hd : d < nk S) (hx : isD S j d) (hgI : ign S j d < 4 ∧ ig S j d = Int32.ofNat (ign S j d)) (hlen : (sl S (d + 1)).length ≤ 20) (hz : z = if b then 1 else 0) :
    wp (f_X2_hears γ (ga 1) (Int32.ofNat d) (Int32.ofNat j) z G) (fun r => KS γ ga tr et hb (hearsP S d j b) ms r ∧ Stq hb G r 2 53) := by
  have hd6 := h.nk_ hd
  have hwf := h.1
  have ed := (h.dmp0 hj hd6).1 hx
  have kk := h.kd hj hd6 hx
  unfold f_X2_hears
  rw [if_pos h.isK, h.course hj, bR_some, if_pos (h.ko hj).1, h.of hj hd6, bR_some, ed.1]
  unfold jn
  dsimp only
  cases b with
  | true =>
    have z0 : ¬ z = 0 := by rw [hz]; decide
    rw [if_neg z0, if_pos kk.1, h.isReady hj hd6 hx, bI_some]
    by_cases c : hw S j d = 1
    · rw [if_pos c, if_neg (by decide)]
      refine wp_bV (wp_ifc h.isK (wp_mono (h.becomes hj hd hx (v := 3) (Or.inr (Or.inr (Or.inr (Or.inl rfl)))) hlen) (fun r hr => ?_)))
      obtain ⟨h1, s1⟩ := hr
      have hx1 : isD (becomesP S j d 3 5) j d := becomes_isD.mpr hx
      have hj1 : j < nc (becomesP S j d 3 5) := hj
      have k1 := h1.kd hj1 hd6 hx1
      have hd1 : d < nk (becomesP S j d 3 5) := hd
      rw [if_pos h1.isK, h1.cook hd1, bR_some, if_pos k1.1, h1.ingr hj1 hd6 hx1, bI_some, if_pos k1.1, h1.amnt hj1 hd6 hx1, bI_some, becomes_ig, becomes_am, hgI.2]
      refine wp_bV (wp_ifc (h1.kc hd1).1 (wp_mono (h1.serves hd1 hgI.1) (fun r2 hr2 => wp_some ⟨?_, (s1.trans hwf hr2.2).mono (by omega) (by omega)⟩)))
      unfold hearsP
      rw [if_pos ⟨rfl, c⟩]
      exact hr2.1
    · rw [if_neg c, if_pos rfl, if_neg z0]
      unfold hearsP
      rw [if_neg (fun q => c q.2), if_neg (fun q => absurd q.1 (by decide))]
      exact wp_some ⟨h, Stq.refl h.1 2 53⟩
  | false =>
    have z0 : z = 0 := by rw [hz]; rfl
    rw [if_pos z0, if_pos z0, if_pos kk.1, h.how hj hd6 hx, bR_some]
    have hh := h.2.1.how kk.2.2.2.2.2.1
    have hk1 : hK G (howA γ (hw S j d)) = howK (hw S j d) := hh.1
    unfold f_X9_canBeCancelled
    rw [hk1]
    have eP : hearsP S d j false = if false = false ∧ (hw S j d = 0 ∨ hw S j d = 1) then becomesP S j d 4 6 else S := by
      unfold hearsP
      rw [if_neg (fun q => absurd q.1 (by decide))]
    rw [eP]
    have yes : hw S j d = 0 ∨ hw S j d = 1 → wp (bI (some ((1 : Int32), G)) fun v10 g9 => if v10 = 0 then some g9 else bV (if hK g9 (ga 1) = 2 then f_X2_becomes γ (ga 1) (Int32.ofNat d) (Int32.ofNat j) (γ.1 8) 6 g9 else none) fun g11 => some g11) (fun r => KS γ ga tr et hb (if false = false ∧ (hw S j d = 0 ∨ hw S j d = 1) then becomesP S j d 4 6 else S) ms r ∧ Stq hb G r 2 53) := by
      intro q
      rw [bI_some, if_neg (by decide), if_pos (show false = false ∧ (hw S j d = 0 ∨ hw S j d = 1) from ⟨rfl, q⟩)]
      refine wp_bV (wp_ifc h.isK (wp_mono (h.becomes hj hd hx (v := 4) (line := 6) (Or.inr (Or.inr (Or.inr (Or.inr rfl)))) hlen) (fun r hr => wp_some hr)))
    have no : ¬ (hw S j d = 0 ∨ hw S j d = 1) → wp (bI (rtN .boolean (0 : Int32) G) fun v10 g9 => if v10 = 0 then some g9 else bV (if hK g9 (ga 1) = 2 then f_X2_becomes γ (ga 1) (Int32.ofNat d) (Int32.ofNat j) (γ.1 8) 6 g9 else none) fun g11 => some g11) (fun r => KS γ ga tr et hb (if false = false ∧ (hw S j d = 0 ∨ hw S j d = 1) then becomesP S j d 4 6 else S) ms r ∧ Stq hb G r 2 53) := by
      intro q
      rw [show rtN .boolean (0 : Int32) G = some (0, G) from rfl, bI_some, if_pos rfl, if_neg (show ¬ (false = false ∧ (hw S j d = 0 ∨ hw S j d = 1)) from fun w => q w.2)]
      exact wp_some ⟨h, Stq.refl h.1 2 53⟩
    rcases kk.2.2.2.2.2.1 with q | q | q | q | q
    · have q' : hw S j d = 0 := q
      rw [q', show howK 0 = 37 from rfl, if_pos rfl]
      rw [q'] at yes
      exact yes (Or.inl rfl)
    · have q' : hw S j d = 1 := q
      rw [q', show howK 1 = 38 from rfl, if_neg (by decide), if_pos rfl]
      rw [q'] at yes
      exact yes (Or.inr rfl)
    · have q' : hw S j d = 2 := q
      rw [q', show howK 2 = 39 from rfl, if_neg (by decide), if_neg (by decide), if_pos rfl]
      rw [q'] at no
      exact no (by decide)
    · have q' : hw S j d = 3 := q
      rw [q', show howK 3 = 40 from rfl, if_neg (by decide), if_neg (by decide), if_neg (by decide), if_pos rfl]
      rw [q'] at no
      exact no (by decide)
    · have q' : hw S j d = 4 := q
      rw [q', show howK 4 = 41 from rfl, if_neg (by decide), if_neg (by decide), if_neg (by decide), if_neg (by decide), if_pos rfl]
      rw [q'] at no
      exact no (by decide)
end C5
