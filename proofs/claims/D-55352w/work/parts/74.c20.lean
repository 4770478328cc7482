def setD (S : St) (j d : Nat) (v0 v1 v2 v3 : Int32) : St := usc (usc (usc (usc S j (4 + 4 * d) v0) j (4 + 4 * d + 1) v1) j (4 + 4 * d + 2) v2) j (4 + 4 * d + 3) v3
theorem setD_at {S : St} {j d : Nat} {v0 v1 v2 v3 : Int32} : sc (setD S j d v0 v1 v2 v3) j (4 + 4 * d) = v0 ∧ sc (setD S j d v0 v1 v2 v3) j (4 + 4 * d + 1) = v1 ∧ sc (setD S j d v0 v1 v2 v3) j (4 + 4 * d + 2) = v2 ∧ sc (setD S j d v0 v1 v2 v3) j (4 + 4 * d + 3) = v3 := by
  unfold setD
  refine ⟨?_, ?_, ?_, ?_⟩
  · rw [sc_usc, if_neg (fun e => by omega), sc_usc, if_neg (fun e => by omega), sc_usc, if_neg (fun e => by omega), sc_usc, if_pos ⟨rfl, rfl⟩]
  · rw [sc_usc, if_neg (fun e => by omega), sc_usc, if_neg (fun e => by omega), sc_usc, if_pos ⟨rfl, rfl⟩]
  · rw [sc_usc, if_neg (fun e => by omega), sc_usc, if_pos ⟨rfl, rfl⟩]
  · rw [sc_usc, if_pos ⟨rfl, rfl⟩]
theorem setD_ne {S : St} {j d j2 y : Nat} {v0 v1 v2 v3 : Int32} (h : j2 ≠ j ∨ y < 4 + 4 * d ∨ 8 + 4 * d ≤ y) : sc (setD S j d v0 v1 v2 v3) j2 y = sc S j2 y := by
  unfold setD
  rw [sc_usc, if_neg (fun e => by omega), sc_usc, if_neg (fun e => by omega), sc_usc, if_neg (fun e => by omega), sc_usc, if_neg (fun e => by omega)]
def givesP (S : St) (j d : Nat) (ing a : Int32) : (Int32 × St × List Ms) ⊕ (Int32 × Int32) :=
  if sc S j 0 = 0 then (if isD S j d then .inr (4, ig S j d) else .inl (Int32.ofNat (dks (setD S j d (ing + 1) a 0 (-1)) j).length, setD S j d (ing + 1) a 0 (-1), [])) else .inr (3, sc S j 0)
section C20
variable {γ : GP} {G G1 : AH} {own ga : Nat → Nat} {tr : Nat → List Nat} {et : Nat → Nat → Nat} {S : St} {hb : Nat → Prop} {ms : List Ms}
theorem Kt.addDish {j d v : Nat} {v0 v1 v2 v3 : Int32} (k : Kt γ G own ga tr et hb S ms) (hw : Wf G) (hc : Cn γ G) (hB : ∀ b, hS G ≤ b → hb b) (hj : j < nc S) (hd : d < 6) (hx : ¬ isD S j d) (h0 : 0 < v0) (hv : DishF γ G v v0 v1 v2 v3) (hvo : own v = 0 ∧ hb v) :
    wp (f_J28_put γ (ga (70 + j)) (bx γ G d) v G) (fun r => ∃ own1 tr1 et1, Kt γ r.2 own1 (u1 ga (80 + 6 * j + d) v) tr1 et1 hb (setD S j d v0 v1 v2 v3) ms ∧ Fc (fun b => own b = 70 + j) G r.2 ∧ Wf r.2 ∧ hS r.2 = hS G + 1 ∧ hM r.2 = hM G + 6) := by
  obtain ⟨⟨b1, b2, b3, b4, b5⟩, k1, k2, k3, k4, k5, k6, kc, kl, ka, ko, kt, kd⟩ := k
  have hlt := hc.lt
  obtain ⟨t1, t2, t3, t4, t5⟩ := kt j hj
  have htd : th (tr j) d = false := by rw [t5 d hd]; exact decide_eq_false hx
  have kx := t1.at0.1
  have lx := hw.k kx (by decide)
  have lv := hw.k hv.1 (by decide)
  refine wp_mono (t1.put hlt hc.cache.1 hd htd hv.1 hv.2.1 (fun i hi e => ?_)) (fun r hr => ?_)
  · unfold dmp at e
    by_cases c : isD S j i
    · rw [if_pos c] at e
      have := (kd j hj i hi c).2.2.1
      rw [e, hvo.1] at this
      omega
    · rw [if_neg c] at e
      have := hv.2.1
      omega
  obtain ⟨T2, r1, r2, r3, r4, r5, r6, r7⟩ := hr
  have r7' : hM r.2 = hM G + 6 := r7
  have ke : ∀ i, i < 6 → th (tr j) i = true → hK G (et j i) = 23 ∧ own (et j i) = 70 + j := fun i hi ti => ⟨(t1.ent hi ti).1, t4 i hi (of_decide_eq_true (by rw [← t5 i hi]; exact ti))⟩
  have fc : Fc (fun b => own b = 70 + j) G r.2 := (r3.toC2 hw (fun b _ e => by
    rcases e with e | ⟨i, hi, ti, e⟩
    · rw [e, kx]; decide
    · rw [e, (ke i hi ti).1]; decide) (fun a ha => ⟨r4 a 74 (hw.k ha (by decide)) (by decide), r4 a 68 (hw.k ha (by decide)) (by decide)⟩)).mono (fun b _ e => by
    rcases e with e | ⟨i, hi, ti, e⟩
    · rw [e]; exact t3
    · rw [e]; exact (ke i hi ti).2)
  have hF := fc
  let own1 : Nat → Nat := fun b => if b < hS G then (if b = v then 80 + 6 * j + d else own b) else if b < hS r.2 ∧ ¬ (28 ≤ hK r.2 b ∧ hK r.2 b ≤ 32) then 70 + j else 0
  have oO : ∀ b, b < hS G → own1 b = if b = v then 80 + 6 * j + d else own b := fun b q => if_pos q
  have hoo : ∀ b, own b ≠ 0 → own1 b = own b := fun b q => by
    have l : b < hS G := by
      rcases Nat.lt_or_ge b (hS G) with w | w
      · exact w
      · exact absurd (b2 b w) q
    rw [oO b l, if_neg (fun e => q (by rw [e]; exact hvo.1))]
  have ho : ∀ b, b < hS G → own b ≠ 0 → own1 b = own b := fun b _ q => hoo b q
  have ov : own1 v = 80 + 6 * j + d := by rw [oO v lv, if_pos rfl]
  have hj8 := b5.1
  have hg : ∀ t, t ≠ 80 + 6 * j + d → u1 ga (80 + 6 * j + d) v t = ga t := fun t h1 => if_neg h1
  have gD : u1 ga (80 + 6 * j + d) v (80 + 6 * j + d) = v := if_pos rfl
  have nt : ∀ t, t ≠ 70 + j → ∀ b, own b = t → ¬ own b = 70 + j := fun t h1 b q p => h1 (by rw [← q, p])
  have nv : ¬ own v = 70 + j := by rw [hvo.1]; omega
  have hlow : ∀ b, own b = 70 + j → γ.2 < b := fun b q => by
    rcases Nat.lt_or_ge γ.2 b with w | w
    · exact w
    · rw [b1 b w] at q; omega
  obtain ⟨z0, z1, z2, z3⟩ := setD_at (S := S) (j := j) (d := d) (v0 := v0) (v1 := v1) (v2 := v2) (v3 := v3)
  refine ⟨own1, fun j2 => if j2 = j then T2 else tr j2, fun j2 => if j2 = j then u1 (et j) d (hS G) else et j2, ⟨⟨fun b hb2 => ?_, fun b hb2 => ?_, fun b q q9 => ?_, b4, hj8, fun b q => ?_, fun b q1 q2 => ?_⟩, ?_, ?_, ?_, ?_, ?_, ?_, ?_, ?_, ?_, ?_, ?_, ?_⟩, fc, r5, r6, r7'⟩
  · rw [oO b (by omega), if_neg (by have := hv.2.1; omega)]
    exact b1 b hb2
  · have := r3.1
    show (if b < hS G then _ else _) = _
    rw [if_neg (show ¬ b < hS G by omega), if_neg (by omega)]
  · rcases Nat.lt_or_ge b (hS G) with w | w
    · rw [oO b w] at q q9
      by_cases e : b = v
      · rw [e]; exact hvo.2
      · rw [if_neg e] at q q9; exact b3 b q q9
    · exact hB b w
  · rcases Nat.lt_or_ge b (hS G) with w | w
    · rw [oO b w] at q
      rw [hF.kind w]
      by_cases e : b = v
      · rw [if_pos e] at q; omega
      · rw [if_neg e] at q; exact b5.2.1 b q
    · have qq : own1 b = if b < hS r.2 ∧ ¬ (28 ≤ hK r.2 b ∧ hK r.2 b ≤ 32) then 70 + j else 0 := if_neg (by omega)
      rw [qq] at q
      split at q
      · omega
      · exact absurd q (by decide)
  · rcases Nat.lt_or_ge b (hS G) with w | w
    · rw [hF.kind w] at q1 q2
      rw [oO b w]
      by_cases e : b = v
      · rw [e, hv.1] at q1; omega
      · rw [if_neg e]; exact b5.2.2 b q1 q2
    · left
      show (if b < hS G then _ else _) = _
      rw [if_neg (show ¬ b < hS G by omega), if_neg (fun e => e.2 ⟨q1, q2⟩)]
  · have := k1.keep hw hF ho (nt 1 (by omega)) (S1 := setD S j d v0 v1 v2 v3) rfl rfl
    unfold K1
    rw [hg 1 (by omega), hg 2 (by omega), hg 3 (by omega), hg 4 (by omega), hg 6 (by omega)]
    exact this
  · have e3 : cks (u1 ga (80 + 6 * j + d) v) (nk S) = cks ga (nk S) := List.map_congr_left (fun i hi => by
      have := List.mem_range.mp hi
      exact hg _ (by omega))
    show ALo γ r.2 own1 (u1 ga (80 + 6 * j + d) v 2) 2 (cks (u1 ga (80 + 6 * j + d) v) (nk S))
    rw [e3, hg 2 (by omega)]
    exact k2.keep (by decide) hw hF ho (nt 2 (by omega))
  · have e3 : crs (u1 ga (80 + 6 * j + d) v) (nc S) = crs ga (nc S) := List.map_congr_left (fun i hi => by
      have := List.mem_range.mp hi
      exact hg _ (by omega))
    show ALo γ r.2 own1 (u1 ga (80 + 6 * j + d) v 3) 3 (crs (u1 ga (80 + 6 * j + d) v) (nc S))
    rw [e3, hg 3 (by omega)]
    exact k3.keep (by decide) hw hF ho (nt 3 (by omega))
  · have := k4.keep hw hF ho (nt 4 (by omega)) (S1 := setD S j d v0 v1 v2 v3) rfl
    unfold K4
    rw [hg 4 (by omega), hg 5 (by omega)]
    exact this
  · rw [hg 5 (by omega)]
    exact k5.keep (by decide) hw hF ho (nt 5 (by omega)) (nt 9 (by omega))
  · rw [hg 6 (by omega)]
    exact k6.keep (by decide) hw hF ho (nt 6 (by omega)) (nt 9 (by omega))
  · intro i hi
    have hi2 : i < nk S := hi
    have := (kc i hi).keep hw hF ho (nt (10 + i) (by omega)) (S1 := setD S j d v0 v1 v2 v3) rfl rfl
    unfold KC
    rw [hg (10 + i) (by omega), hg (20 + i) (by omega), hg (30 + 3 * i) (by omega), hg (30 + 3 * i + 1) (by omega), hg (30 + 3 * i + 2) (by omega)]
    exact this
  · intro i hi
    have hi2 : i < nk S := hi
    rw [hg (20 + i) (by omega)]
    exact (kl i hi2).keep (by omega) hw hF ho (nt (20 + i) (by omega)) (nt 9 (by omega))
  · intro i hi b hb2
    have hi2 : i < nk S := hi
    have := (ka i hi2 b hb2).keep hw hF ho (nt _ (by omega)) (S1 := setD S j d v0 v1 v2 v3) (fun y hy => rfl)
    unfold KA
    rw [hg (30 + 3 * i + b) (by omega)]
    exact this
  · intro j2 hj2
    have hj3 : j2 < nc S := hj2
    have := (ko j2 hj3).keep hw hF ho (nt (60 + j2) (by omega)) (S1 := setD S j d v0 v1 v2 v3) (setD_ne (Or.inr (Or.inl (by omega)))) (setD_ne (Or.inr (Or.inl (by omega)))) (setD_ne (Or.inr (Or.inl (by omega)))) rfl
    unfold KO
    rw [hg (60 + j2) (by omega), hg (70 + j2) (by omega)]
    exact this
  · intro j2 hj2
    have hj3 : j2 < nc S := hj2
    by_cases w : j2 = j
    · subst w
      unfold KT
      rw [hg (70 + j2) (by omega)]
      have lE : own1 (hS G) = 70 + j2 := by
        have kE : hK r.2 (hS G) = 23 := by
          have e := (r1.ent hd (by rw [r2 d hd]; simp)).1
          rw [show u1 (et j2) d (hS G) d = hS G from if_pos rfl] at e
          exact e
        show (if hS G < hS G then _ else _) = _
        rw [if_neg (Nat.lt_irrefl _), if_pos ⟨by omega, by rw [kE]; decide⟩]
      refine ⟨?_, hF.2 _ kx t2, by rw [ho _ lx (by rw [t3]; omega)]; exact t3, fun i hi hxi => ?_, fun i hi => ?_⟩
      · show TM γ r.2 (ga (70 + j2)) (if j2 = j2 then T2 else tr j2) (dmp (setD S j2 d v0 v1 v2 v3) (u1 ga (80 + 6 * j2 + d) v) j2) (if j2 = j2 then u1 (et j2) d (hS G) else et j2)
        rw [if_pos rfl, if_pos rfl]
        obtain ⟨q1, q2, φ, q3, q4, q5, q6⟩ := r1
        have em : ∀ i, i < 6 → dmp (setD S j2 d v0 v1 v2 v3) (u1 ga (80 + 6 * j2 + d) v) j2 i = u1 (dmp S ga j2) d v i := fun i hi => by
          unfold dmp isD
          by_cases e : i = d
          · subst e
            rw [z0, if_pos h0, gD]; exact (if_pos rfl).symm
          · rw [setD_ne (Or.inr (by omega)), hg (80 + 6 * j2 + i) (by omega)]
            exact (if_neg e).symm
        exact ⟨q1, fun i hi ht => by rw [em i hi]; exact q2 i hi ht, φ, q3, q4, q5, fun i hi ht => by rw [em i hi]; exact q6 i hi ht⟩
      · show own1 ((if j2 = j2 then u1 (et j2) d (hS G) else et j2) i) = _
        rw [if_pos rfl]
        by_cases e : i = d
        · subst e
          rw [show u1 (et j2) i (hS G) i = hS G from if_pos rfl]; exact lE
        · rw [show u1 (et j2) d (hS G) i = et j2 i from if_neg e]
          have hxi' : isD S j2 i := by
            unfold isD at hxi ⊢
            rw [setD_ne (Or.inr (by omega))] at hxi; exact hxi
          rw [hoo _ (by rw [t4 i hi hxi']; omega)]
          exact t4 i hi hxi'
      · show th (if j2 = j2 then T2 else tr j2) i = _
        rw [if_pos rfl, r2 i hi]
        by_cases e : i = d
        · subst e
          unfold isD
          rw [z0, decide_eq_true h0]
          simp
        · rw [t5 i hi, show (i == d) = false from beq_eq_false_iff_ne.mpr e, Bool.or_false]
          unfold isD
          rw [setD_ne (Or.inr (by omega))]
    · have kk := (kt j2 hj3).keep hw r5 hc hF hlow ho (nt (70 + j2) (by omega)) (S1 := setD S j d v0 v1 v2 v3) (fun i _ => setD_ne (Or.inl w))
      unfold KT at kk ⊢
      rw [hg (70 + j2) (by omega)]
      show TM γ r.2 (ga (70 + j2)) (if j2 = j then T2 else tr j2) (dmp (setD S j d v0 v1 v2 v3) (u1 ga (80 + 6 * j + d) v) j2) (if j2 = j then u1 (et j) d (hS G) else et j2) ∧ VwOK r.2 (ga (70 + j2)) ∧ own1 (ga (70 + j2)) = 70 + j2 ∧ (∀ i, i < 6 → isD (setD S j d v0 v1 v2 v3) j2 i → own1 ((if j2 = j then u1 (et j) d (hS G) else et j2) i) = 70 + j2) ∧ ∀ i, i < 6 → th (if j2 = j then T2 else tr j2) i = decide (isD (setD S j d v0 v1 v2 v3) j2 i)
      rw [if_neg w, if_neg w]
      obtain ⟨y1, y2, y3, y4, y5⟩ := kk
      refine ⟨?_, y2, y3, y4, y5⟩
      obtain ⟨q1, q2, φ, q3, q4, q5, q6⟩ := y1
      have em : ∀ i, i < 6 → dmp (setD S j d v0 v1 v2 v3) (u1 ga (80 + 6 * j + d) v) j2 i = dmp (setD S j d v0 v1 v2 v3) ga j2 i := fun i hi => by
        unfold dmp
        rw [hg (80 + 6 * j2 + i) (by omega)]
      exact ⟨q1, fun i hi ht => by rw [em i hi]; exact q2 i hi ht, φ, q3, q4, q5, fun i hi ht => by rw [em i hi]; exact q6 i hi ht⟩
  · intro j2 hj2 i hi hxi
    have hj3 : j2 < nc S := hj2
    by_cases w : j2 = j ∧ i = d
    · obtain ⟨e1, e2⟩ := w
      subst e1
      subst e2
      obtain ⟨y1, y2, y3, y4, y5, y6, y7⟩ := hv
      unfold KD
      rw [gD, z0, z1, z2, z3]
      exact ⟨by rw [hF.kind lv]; exact y1, y2, ov, by rw [hF.rI lv nv]; exact y3, by rw [hF.rI lv nv]; exact y4, by rw [hF.rR lv nv (by decide)]; exact y5, by rw [hF.rI lv nv]; exact y6, y7⟩
    · have ne : ∀ y, 4 + 4 * i ≤ y → y < 8 + 4 * i → sc (setD S j d v0 v1 v2 v3) j2 y = sc S j2 y := fun y h1 h2 => setD_ne (by omega)
      have hxi' : isD S j2 i := by
        unfold isD at hxi ⊢
        rw [ne _ (by omega) (by omega)] at hxi; exact hxi
      have := (kd j2 hj3 i hi hxi').keep hw hF ho (nt (80 + 6 * j2 + i) (by omega)) (S1 := setD S j d v0 v1 v2 v3) (ne _ (by omega) (by omega)) (ne _ (by omega) (by omega)) (ne _ (by omega) (by omega)) (ne _ (by omega) (by omega))
      unfold KD
      rw [hg (80 + 6 * j2 + i) (by omega)]
      exact this
theorem X8_init {q : Nat} {a b : Int32} (hw : Wf G) (hk : hK G q = 22) (hq : γ.2 < q) : wp (f_X8_init γ q a b G) (fun r => DishF γ r q (a + 1) b 0 (-1) ∧ Fr (fun a => a = q) G r ∧ Wf r ∧ hS r = hS G ∧ hM r = hM G) := by
  unfold f_X8_init
  refine wp_ifc (by omega) (wp_pR (okw hk (by decide) hq) (wp_pI ⟨okw (c := 22) hk (by decide) hq, rfl, rfl⟩ (wp_pI ⟨okw (c := 22) hk (by decide) hq, rfl, rfl⟩ (wp_pI ⟨okw (c := 22) hk (by decide) hq, rfl, rfl⟩ (wp_some ?_)))))
  refine ⟨⟨hk, hq, ?_, ?_, ?_, ?_, Or.inl rfl⟩, ((((Fr.refl (fun a => a = q) G).sR (Or.inl rfl)).sI (Or.inl rfl)).sI (Or.inl rfl)).sI (Or.inl rfl), (((hw.sR).sI).sI).sI, rfl, rfl⟩
  · rw [hI_sI, if_neg (fun e => absurd e.1 (by decide)), hI_sI, if_pos ⟨rfl, rfl⟩]
  · rw [hI_sI, if_pos ⟨rfl, rfl⟩]
  · show hR (sR G 95 q (γ.1 10)) 95 q = _
    rw [rs]; rfl
  · rw [hI_sI, if_neg (fun e => absurd e.1 (by decide)), hI_sI, if_neg (fun e => absurd e.1 (by decide)), hI_sI, if_pos ⟨rfl, rfl⟩]
theorem KS.gives {j d : Nat} {ing a : Int32} (h : KS γ ga tr et hb S ms G) (hj : j < nc S) (hd : d < 6) (hi : 0 < ing + 1) : wp (f_X2_givesDish γ (ga 1) (Int32.ofNat j) (Int32.ofNat d) ing a G) (CmdX γ ga hb G ms 2 10 (givesP S j d ing a)) := by
  unfold f_X2_givesDish givesP
  rw [if_pos h.isK, h.course hj, bR_some, if_pos (h.ko hj).1, h.phase hj, bI_some]
  unfold jn
  dsimp only
  by_cases c0 : sc S j 0 = 0
  · rw [if_pos c0, if_pos c0, if_pos (h.ko hj).1, h.phase hj, bI_some, meet_ok (by decide), if_pos (h.ko hj).1, h.of hj hd, bR_some]
    by_cases hx : isD S j d
    · have e := (h.dmp0 hj hd).1 hx
      rw [if_neg e.2, if_neg e.2, e.1, if_pos (h.kd hj hd hx).1, h.ingr hj hd hx, bI_some, if_pos hx]
      exact wp_mono (h.refuse rfl (by decide) (by decide)) (fun r hr => CmdQ.toX (o := .inr (4, ig S j d)) hr)
    · have e := (h.dmp0 hj hd).2 hx
      rw [if_pos e, if_pos e, meet_ok (by decide), if_pos (h.ko hj).1, h.dishes hj, bR_some, h.2.1.valueOf (by omega), bR_some, if_neg hx]
      have h00 := h
      obtain ⟨hw, hc, h3, h4, own, k⟩ := h
      obtain ⟨n1, n2, n3, n4⟩ := newObj (c := 22) (n := cInst 22) hw
      have hlt := hc.lt
      refine wp_mO (wp_bV ?_)
      rw [if_pos n4]
      refine wp_mono (X8_init n2 n3 hlt) (fun r hr => ?_)
      obtain ⟨y1, y2, y3, y4, y5⟩ := hr
      rw [hS_nO] at y4
      rw [hM_nO] at y5
      have f1 : Fr (fun _ => False) G r := n1.trans y2 (fun b e => Or.inr (by rw [e]; exact Nat.le_refl _))
      have fc1 := f1.toC hw (fun _ _ q => q.elim)
      have hc1 := hc.keep fc1 (fun _ q => q.elim)
      have k1 : Kt γ r own ga tr et hb S ms := k.keepAll hw hc y3 fc1 (fun _ q => q.elim)
      have eb : bx γ r d = bx γ G d := by
        show hQ r (γ.1 9) _ = hQ G (γ.1 9) _
        rw [fc1.rQ (hw.k hc.cache.1 (by decide)) (fun q => q)]
      have hK1 : KS γ ga tr et hb S ms r := ⟨y3, hc1, h3, fun a q => h4 a (Nat.le_trans f1.1 q), own, k1⟩
      rw [← eb]
      refine wp_bR (wp_ifc (hK1.kt hj).1.at0.1 (wp_mono (k1.addDish y3 hc1 (fun b q => h4 b (Nat.le_trans f1.1 q)) hj hd hx hi y1 ⟨k.1.2.1 _ (Nat.le_refl _), h4 _ (Nat.le_refl _)⟩) (fun r2 hr2 => ?_)))
      obtain ⟨own1, tr1, et1, w1, w2, w3, w4, w5⟩ := hr2
      have base : ∀ a, own a = 70 + j → hb a := fun a e => k1.1.2.2.1 a (by rw [e]; omega) (by rw [e]; omega)
      have fh : Fc hb r r2.2 := w2.mono (fun a _ q => base a q)
      have hK2 : KS γ (u1 ga (80 + 6 * j + d) (hS G)) tr1 et1 hb (setD S j d (ing + 1) a 0 (-1)) ms r2.2 := ⟨w3, hc1.keep fh h3, h3, fun a q => h4 a (Nat.le_trans f1.1 (Nat.le_trans fh.le q)), own1, w1⟩
      have e1 : ∀ t, t < 80 → u1 ga (80 + 6 * j + d) (hS G) t = ga t := fun t ht => if_neg (by omega)
      have hj8 := hK1.bnd
      have hj2 : j < nc (setD S j d (ing + 1) a 0 (-1)) := hj
      have q1 := (hK2.ko hj2).1
      have q2 := hK2.dishes hj2
      have q3 := (hK2.kt hj2).1.at0.1
      have q4 := hK2.size hj2
      rw [e1 (60 + j) (by omega)] at q1 q2
      rw [e1 (70 + j) (by omega)] at q2 q3 q4
      rw [if_pos q1, q2, bR_some, if_pos q3, q4, bI_some]
      exact wp_some ⟨r2.2, _, tr1, et1, rfl, e1 1 (by omega), by rw [List.append_nil]; exact hK2, (fc1.mono (fun _ _ q => q.elim)).trans fh hw (fun _ q => Or.inl q), w3, by omega, by rw [show cInst 22 = 4 from rfl] at y5; omega⟩
  · rw [if_neg c0, if_neg c0, if_pos (h.ko hj).1, h.phase hj, bI_some]
    exact wp_mono (h.refuse rfl (by decide) (by decide)) (fun r hr => CmdQ.toX (o := .inr (3, sc S j 0)) hr)
end C20
