section C3
variable {γ : GP} {G G1 : AH} {ga : Nat → Nat} {tr : Nat → List Nat} {et : Nat → Nat → Nat} {S : St} {hb : Nat → Prop} {ms : List Ms}
theorem KS.keyLoop {β : Type} {Q : β → Prop} {K : Nat → AH → Option β} {j : Nat} (h : KS γ ga tr et hb S ms G) (hj : j < nc S)
    (k : ∀ it G2, KS γ ga tr et (fun a => hb a ∧ a ≠ it) S ms G2 → TIt γ G2 it (ga (70 + j)) (et j) (tr j) 0 17 → Stq hb G G2 2 5 → hb it → hS G ≤ it → wp (K it G2) Q) :
    wp (bR (if hK G (ga (70 + j)) = 15 then f_J28_keySet γ (ga (70 + j)) G else none) fun v6 g5 => bR (if hK g5 v6 = 21 then f_J35_iterator γ v6 g5 else none) K) Q := by
  obtain ⟨t1, t2, t3⟩ := h.kt hj
  have hlt := h.2.1.lt
  refine wp_bR (wp_ifc t1.at0.1 (wp_mono (t1.keySet t2 hlt h.2.1.b9) (fun r hr => ?_)))
  obtain ⟨r1, r2, r3, r4, r5, r6, r7⟩ := hr
  have hle := r4.le
  have h1 := h.keepAll r5 r4 (fun _ q => q.elim)
  refine TM.keyIt r3 (by omega) h1.2.1.b9 r1 r2 (fun G2 q1 q2 q3 q4 q5 q6 => ?_)
  have h2 := h1.guard q4 q3 (fun _ q => q.elim) (Nat.le_refl _) (by omega)
  refine k _ _ h2 q1 ⟨(r4.trans q3 h.1 (fun _ q => q.elim)).mono (fun _ _ q => q.elim), q4, by omega, by omega⟩ (h.2.2.2.1 _ hle) hle
theorem KS.valLoop {β : Type} {Q : β → Prop} {K : Nat → AH → Option β} {j : Nat} (h : KS γ ga tr et hb S ms G) (hj : j < nc S)
    (k : ∀ it G2, KS γ ga tr et (fun a => hb a ∧ a ≠ it) S ms G2 → TIt γ G2 it (ga (70 + j)) (et j) (tr j) 0 18 → Stq hb G G2 2 5 → hb it → hS G ≤ it → wp (K it G2) Q) :
    wp (bR (if hK G (ga (70 + j)) = 15 then f_J28_values γ (ga (70 + j)) G else none) fun v6 g5 => bR (if hK g5 v6 = 26 then f_J42_iterator γ v6 g5 else none) K) Q := by
  obtain ⟨t1, t2, t3⟩ := h.kt hj
  have hlt := h.2.1.lt
  refine wp_bR (wp_ifc t1.at0.1 (wp_mono (t1.values t2 hlt h.2.1.b9) (fun r hr => ?_)))
  obtain ⟨r1, r2, r3, r4, r5, r6, r7⟩ := hr
  have hle := r4.le
  have h1 := h.keepAll r5 r4 (fun _ q => q.elim)
  refine TM.valIt r3 (by omega) h1.2.1.b9 r1 r2 (fun G2 q1 q2 q3 q4 q5 q6 => ?_)
  have h2 := h1.guard q4 q3 (fun _ q => q.elim) (Nat.le_refl _) (by omega)
  refine k _ _ h2 q1 ⟨(r4.trans q3 h.1 (fun _ q => q.elim)).mono (fun _ _ q => q.elim), q4, by omega, by omega⟩ (h.2.2.2.1 _ hle) hle
theorem dks_le (j : Nat) : (dks S j).length ≤ 6 := by
  have := List.length_filter_le (fun d => decide (isD S j d)) (List.range 6)
  rw [List.length_range] at this
  exact this
theorem KS.size (h : KS γ ga tr et hb S ms G) {j : Nat} (hj : j < nc S) : f_J28_size γ (ga (70 + j)) G = some (Int32.ofNat (dks S j).length, G) := by
  unfold f_J28_size
  have t := (h.kt hj).1.at0
  rw [gI_ok (okf t.1 (by decide)), t.2.2.2.1, h.tnE hj]
theorem KS.dishes (h : KS γ ga tr et hb S ms G) {j : Nat} (hj : j < nc S) : f_X7_dishes γ (ga (60 + j)) G = some (ga (70 + j), G) := by
  unfold f_X7_dishes
  rw [gR_ok (okf (h.ko hj).1 (by decide)), (h.ko hj).2.2.2.2.2.1]
theorem KS.sendsAll {j : Nat} (h : KS γ ga tr et hb S ms G) (hj : j < nc S) (hDn : ∀ d, d < 6 → isD S j d → d < nk S) (hlen : ms.length + 6 < 10000) :
    wp (f_X2_sendsAll γ (ga 1) (Int32.ofNat j) G) (fun r => r.1 = Int32.ofNat (dks S j).length ∧ KS γ ga tr et hb S (ms ++ sendsP S (decn S j) j) r.2 ∧ Stq hb G r.2 14 47) := by
  unfold f_X2_sendsAll
  rw [if_pos h.isK, h.course hj, bR_some, if_pos (h.ko hj).1, h.dishes hj, bR_some]
  refine h.keyLoop hj (fun it G2 h2 t2 s2 hb2 hit => ?_)
  refine KS.sendsLoop hj hDn (fun q => q.2 rfl) FU 0 ms G2 (by show 6 - 0 < 4294967296; decide) h2 t2 (by omega) (fun r h3 s3 => ?_)
  rw [if_pos (h3.ko hj).1, h3.dishes hj, bR_some, if_pos (h3.kt hj).1.at0.1, h3.size hj, bI_some]
  have hks : ks (tr j) 0 = dks S j := (h.dksE hj).symm
  have hle := dks_le (S := S) j
  refine wp_some ⟨rfl, ?_, ?_⟩
  · rw [hks] at h3
    exact h3.mono (fun a q => q.1) h.2.2.1
  · rw [hks] at s3
    refine (s2.trans h.1 (s3.wide (fun a _ q => ?_))).mono (by omega) (by omega)
    rcases q with q | q
    · exact q.1
    · rw [q]; exact hb2
theorem fo_out {α : Type} (f : Nat → α → α) (k : Nat) (a : α) : fo f 0 k a = a := rfl
theorem fo_in {α : Type} (f : Nat → α → α) (m k : Nat) (a : α) : fo f (m + 1) k a = fo f m (k + 1) (f k a) := rfl
theorem AIt.keepF {P : Nat → Prop} {it x i : Nat} {L : List Nat} (t : AIt γ G it x i) (h : AL γ G x L) (hF : Fc P G G1) (hw : Wf G) (hn : ¬ P it) (hx : ¬ P x) : AIt γ G1 it x i := by
  obtain ⟨t1, t2, t3, t4, t5⟩ := t
  have l := hw.k t1 (by decide)
  exact ⟨by rw [hF.kind l]; exact t1, t2, by rw [hF.rR l hn (by decide)]; exact t3, by rw [hF.rI l hn]; exact t4, by rw [hF.rI l hn, hF.rI (hw.k h.1 (by decide)) hx]; exact t5⟩
theorem KS.nd3 {j : Nat} (hj : j < nc S) : nd (crs ga (nc S)) j = ga (60 + j) := by
  unfold nd crs
  rw [List.getD_eq_getElem?_getD, List.getElem?_map, List.getElem?_range hj]
  rfl
theorem KS.nd2 {j : Nat} (hj : j < nk S) : nd (cks ga (nk S)) j = ga (10 + j) := by
  unfold nd cks
  rw [List.getD_eq_getElem?_getD, List.getElem?_map, List.getElem?_range hj]
  rfl
theorem len3 : (crs ga (nc S)).length = nc S := by rw [crs, List.length_map, List.length_range]
theorem len2 : (cks ga (nk S)).length = nk S := by rw [cks, List.length_map, List.length_range]
theorem KS.all20 (h : KS γ ga tr et hb S ms G) : ∀ v ∈ crs ga (nc S), hK G v = 20 := by
  intro v hv
  obtain ⟨j, hj, e⟩ := List.mem_map.mp hv
  rw [← e]
  exact (h.ko (List.mem_range.mp hj)).1
theorem KS.all16 (h : KS γ ga tr et hb S ms G) : ∀ v ∈ cks ga (nk S), hK G v = 16 := by
  intro v hv
  obtain ⟨j, hj, e⟩ := List.mem_map.mp hv
  rw [← e]
  exact (h.kc (List.mem_range.mp hj)).1
/-- a for-each over the courses (9, ga 3) or the cooks (8, ga 2) -/
theorem KS.courseLoop {β : Type} {Q : β → Prop} {K : Nat → AH → Option β} (h : KS γ ga tr et hb S ms G)
    (k : ∀ it G2, KS γ ga tr et (fun a => hb a ∧ a ≠ it) S ms G2 → AIt γ G2 it (ga 3) 0 → Stq hb G G2 1 4 → hb it → hS G ≤ it → wp (K it G2) Q) :
    wp (bR (if hK G (ga 3) = 3 then f_J2_iterator γ (ga 3) G else none) K) Q := by
  have hlt := h.2.1.lt
  refine wp_bR (wp_ifc h.k3.1 (wp_mono (AL.iterator h.1 hlt h.k3) (fun r hr => ?_)))
  obtain ⟨r1, r2, r3, r4, r5, r6⟩ := hr
  have fc := r3.toC h.1 (fun _ _ q => q.elim)
  rw [r1] at r2
  have h2 := h.guard r4 fc (fun _ q => q.elim) (it := hS G) (Nat.le_refl _) (by omega)
  rw [r1]
  exact k _ _ h2 r2 ⟨fc.mono (fun _ _ q => q.elim), r4, by omega, by omega⟩ (h.2.2.2.1 _ (Nat.le_refl _)) (Nat.le_refl _)
theorem KS.cookLoop {β : Type} {Q : β → Prop} {K : Nat → AH → Option β} (h : KS γ ga tr et hb S ms G)
    (k : ∀ it G2, KS γ ga tr et (fun a => hb a ∧ a ≠ it) S ms G2 → AIt γ G2 it (ga 2) 0 → Stq hb G G2 1 4 → hb it → hS G ≤ it → wp (K it G2) Q) :
    wp (bR (if hK G (ga 2) = 3 then f_J2_iterator γ (ga 2) G else none) K) Q := by
  have hlt := h.2.1.lt
  refine wp_bR (wp_ifc h.k2.1 (wp_mono (AL.iterator h.1 hlt h.k2) (fun r hr => ?_)))
  obtain ⟨r1, r2, r3, r4, r5, r6⟩ := hr
  have fc := r3.toC h.1 (fun _ _ q => q.elim)
  rw [r1] at r2
  have h2 := h.guard r4 fc (fun _ q => q.elim) (it := hS G) (Nat.le_refl _) (by omega)
  rw [r1]
  exact k _ _ h2 r2 ⟨fc.mono (fun _ _ q => q.elim), r4, by omega, by omega⟩ (h.2.2.2.1 _ (Nat.le_refl _)) (Nat.le_refl _)
/-- one step of it -/
theorem KS.courseStep {β : Type} {Q : β → Prop} {it i : Nat} {A : AH → Option β} {Bd : Nat → AH → Option β} (h : KS γ ga tr et hb S ms G) (t : AIt γ G it (ga 3) i) (hit : ¬ hb it) (hi : i ≤ nc S)
    (k0 : i = nc S → wp (A G) Q)
    (k1 : i < nc S → ∀ G1, KS γ ga tr et hb S ms G1 → AIt γ G1 it (ga 3) (i + 1) → Stq (fun a => hb a ∨ a = it) G G1 0 0 → wp (Bd (ga (60 + i)) G1) Q) :
    wp (bI (if hK G it = 10 then f_J13_hasNext γ it G else if hK G it = 13 then f_J24_hasNext γ it G else if hK G it = 17 then f_J29_hasNext γ it G else if hK G it = 18 then f_J29_hasNext γ it G else none) fun v10 g9 => (if v10 = 0 then A g9 else bR (if hK g9 it = 10 then f_J13_next γ it g9 else if hK g9 it = 13 then f_J24_next γ it g9 else if hK g9 it = 17 then f_J31_next γ it g9 else if hK g9 it = 18 then f_J32_next γ it g9 else none) fun v12 g11 => gC g11 [20] v12 (Bd v12 g11))) Q := by
  have hn := h.bnd
  refine listStep (c := 20) h.1 h.k3 t (by rw [len3]; exact hi) (by rw [len3]; omega) h.all20 (fun e => k0 (by rw [len3] at e; exact e)) (fun q G1 t1 a1 f1 w1 s1 m1 => ?_)
  rw [len3] at q
  have hkt : hK G it < 28 ∧ hK G it ≠ 15 ∧ hK G it ≠ 21 ∧ hK G it ≠ 26 := by rw [t.1]; decide
  rw [KS.nd3 q]
  exact k1 q G1 (h.keepIt hit hkt t.2.1 w1 f1) t1 (Stq.ofFr h.1 f1 (fun a e => by rw [e]; exact ⟨Or.inr rfl, hkt.2⟩) w1 (by omega) (by omega))
theorem KS.cookStep {β : Type} {Q : β → Prop} {it i : Nat} {A : AH → Option β} {Bd : Nat → AH → Option β} (h : KS γ ga tr et hb S ms G) (t : AIt γ G it (ga 2) i) (hit : ¬ hb it) (hi : i ≤ nk S)
    (k0 : i = nk S → wp (A G) Q)
    (k1 : i < nk S → ∀ G1, KS γ ga tr et hb S ms G1 → AIt γ G1 it (ga 2) (i + 1) → Stq (fun a => hb a ∨ a = it) G G1 0 0 → wp (Bd (ga (10 + i)) G1) Q) :
    wp (bI (if hK G it = 10 then f_J13_hasNext γ it G else if hK G it = 13 then f_J24_hasNext γ it G else if hK G it = 17 then f_J29_hasNext γ it G else if hK G it = 18 then f_J29_hasNext γ it G else none) fun v10 g9 => (if v10 = 0 then A g9 else bR (if hK g9 it = 10 then f_J13_next γ it g9 else if hK g9 it = 13 then f_J24_next γ it g9 else if hK g9 it = 17 then f_J31_next γ it g9 else if hK g9 it = 18 then f_J32_next γ it g9 else none) fun v12 g11 => gC g11 [16] v12 (Bd v12 g11))) Q := by
  have hn := h.bnd
  refine listStep (c := 16) h.1 h.k2 t (by rw [len2]; exact hi) (by rw [len2]; omega) h.all16 (fun e => k0 (by rw [len2] at e; exact e)) (fun q G1 t1 a1 f1 w1 s1 m1 => ?_)
  rw [len2] at q
  have hkt : hK G it < 28 ∧ hK G it ≠ 15 ∧ hK G it ≠ 21 ∧ hK G it ≠ 26 := by rw [t.1]; decide
  rw [KS.nd2 q]
  exact k1 q G1 (h.keepIt hit hkt t.2.1 w1 f1) t1 (Stq.ofFr h.1 f1 (fun a e => by rw [e]; exact ⟨Or.inr rfl, hkt.2⟩) w1 (by omega) (by omega))
theorem KS.isReady {j d : Nat} (h : KS γ ga tr et hb S ms G) (hj : j < nc S) (hd : d < 6) (hx : isD S j d) : f_X8_isReady γ (ga (80 + 6 * j + d)) G = some ((if hw S j d = 1 then 1 else 0), G) := by
  have k := h.kd hj hd hx
  unfold f_X8_isReady
  rw [gR_ok (okf k.1 (by decide)), k.2.2.2.1]
  have e1 : γ.1 11 = howA γ 1 := rfl
  rw [e1]
  show (if howA γ (hw S j d) = howA γ 1 then rtN .boolean 1 G else rtN .boolean 0 G) = _
  by_cases c : hw S j d = 1
  · rw [if_pos c, if_pos (by rw [c])]; rfl
  · rw [if_neg c, if_neg (fun q => c (h.2.1.howInj k.2.2.2.2.2.1 (Or.inr (Or.inl rfl)) q))]; rfl
theorem KS.ingr {j d : Nat} (h : KS γ ga tr et hb S ms G) (hj : j < nc S) (hd : d < 6) (hx : isD S j d) : f_X8_ingredient γ (ga (80 + 6 * j + d)) G = some (ig S j d, G) := by
  have k := h.kd hj hd hx
  unfold f_X8_ingredient
  rw [gI_ok (okf k.1 (by decide)), k.2.1]
  rfl
theorem KS.amnt {j d : Nat} (h : KS γ ga tr et hb S ms G) (hj : j < nc S) (hd : d < 6) (hx : isD S j d) : f_X8_amount γ (ga (80 + 6 * j + d)) G = some (am S j d, G) := by
  have k := h.kd hj hd hx
  unfold f_X8_amount
  rw [gI_ok (okf k.1 (by decide)), k.2.2.1]
  rfl
end C3
