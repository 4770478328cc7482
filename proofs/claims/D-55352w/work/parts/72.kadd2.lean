def addCr (S : St) (crn : Nat → Int32) (vt : Nat) : St := ((nk S, nc S + 1), sg S, sk S, fun j y => if j = nc S then crn y else sc S j y, sl S, fun j => if j = nc S then vt else sv S j)
def gaCr (ga : Nat → Nat) (n c x : Nat) (m : Nat → Nat) : Nat → Nat := fun t => if t = 60 + n then c else if t = 70 + n then x else if 80 + 6 * n ≤ t ∧ t < 86 + 6 * n then m (t - (80 + 6 * n)) else ga t
def fnd (T : List Nat) (f : Nat → Nat) (b : Nat) : Nat := if th T 0 = true ∧ b = f 0 then 1 else if th T 1 = true ∧ b = f 1 then 2 else if th T 2 = true ∧ b = f 2 then 3 else if th T 3 = true ∧ b = f 3 then 4 else if th T 4 = true ∧ b = f 4 then 5 else if th T 5 = true ∧ b = f 5 then 6 else 0
theorem fnd_of {T : List Nat} {f : Nat → Nat} {b : Nat} (h : fnd T f b ≠ 0) : ∃ d, d < 6 ∧ th T d = true ∧ b = f d ∧ fnd T f b = d + 1 := by
  unfold fnd at h ⊢
  by_cases c0 : th T 0 = true ∧ b = f 0
  · exact ⟨0, by decide, c0.1, c0.2, if_pos c0⟩
  rw [if_neg c0] at h ⊢
  by_cases c1 : th T 1 = true ∧ b = f 1
  · exact ⟨1, by decide, c1.1, c1.2, if_pos c1⟩
  rw [if_neg c1] at h ⊢
  by_cases c2 : th T 2 = true ∧ b = f 2
  · exact ⟨2, by decide, c2.1, c2.2, if_pos c2⟩
  rw [if_neg c2] at h ⊢
  by_cases c3 : th T 3 = true ∧ b = f 3
  · exact ⟨3, by decide, c3.1, c3.2, if_pos c3⟩
  rw [if_neg c3] at h ⊢
  by_cases c4 : th T 4 = true ∧ b = f 4
  · exact ⟨4, by decide, c4.1, c4.2, if_pos c4⟩
  rw [if_neg c4] at h ⊢
  by_cases c5 : th T 5 = true ∧ b = f 5
  · exact ⟨5, by decide, c5.1, c5.2, if_pos c5⟩
  rw [if_neg c5] at h
  exact absurd rfl h
theorem fnd_zero {T : List Nat} {f : Nat → Nat} {b d : Nat} (h : fnd T f b = 0) (hd : d < 6) : ¬ (th T d = true ∧ b = f d) := by
  unfold fnd at h
  by_cases c0 : th T 0 = true ∧ b = f 0
  · rw [if_pos c0] at h; exact absurd h (by decide)
  rw [if_neg c0] at h
  by_cases c1 : th T 1 = true ∧ b = f 1
  · rw [if_pos c1] at h; exact absurd h (by decide)
  rw [if_neg c1] at h
  by_cases c2 : th T 2 = true ∧ b = f 2
  · rw [if_pos c2] at h; exact absurd h (by decide)
  rw [if_neg c2] at h
  by_cases c3 : th T 3 = true ∧ b = f 3
  · rw [if_pos c3] at h; exact absurd h (by decide)
  rw [if_neg c3] at h
  by_cases c4 : th T 4 = true ∧ b = f 4
  · rw [if_pos c4] at h; exact absurd h (by decide)
  rw [if_neg c4] at h
  by_cases c5 : th T 5 = true ∧ b = f 5
  · rw [if_pos c5] at h; exact absurd h (by decide)
  rw [if_neg c5] at h
  have : d = 0 ∨ d = 1 ∨ d = 2 ∨ d = 3 ∨ d = 4 ∨ d = 5 := by omega
  rcases this with q | q | q | q | q | q <;> subst q <;> assumption
theorem fnd_at {T : List Nat} {f : Nat → Nat} {d : Nat} (hd : d < 6) (ht : th T d = true) (hi : ∀ i, i < 6 → th T i = true → f i = f d → i = d) : fnd T f (f d) = d + 1 := by
  have h0 : fnd T f (f d) ≠ 0 := fun e => fnd_zero e hd ⟨ht, rfl⟩
  obtain ⟨i, h1, h2, h3, h4⟩ := fnd_of h0
  rw [h4, hi i h1 h2 h3.symm]
section KADD2
variable {γ : GP} {G G1 : AH} {own own1 ga : Nat → Nat} {tr : Nat → List Nat} {et : Nat → Nat → Nat} {S : St} {hb : Nat → Prop} {ms : List Ms}
/-- a dish as it lies -/
def DishF (γ : GP) (G : AH) (a : Nat) (v0 v1 v2 v3 : Int32) : Prop := hK G a = 22 ∧ γ.2 < a ∧ hI G 93 a + 1 = v0 ∧ hI G 94 a = v1 ∧ hR G 95 a = howA γ v2 ∧ hI G 96 a = v3 ∧ isHow v2
theorem Kt.addCourse {c x vt : Nat} {T : List Nat} {m e : Nat → Nat} {crn : Nat → Int32} (k : Kt γ G own ga tr et hb S ms) (hw : Wf G) (hc : Cn γ G) (hB : ∀ b, hS G ≤ b → hb b) (hn : nc S < 8)
    (c1 : hK G c = 20 ∧ γ.2 < c ∧ own c = 0 ∧ hb c) (c2 : hI G 88 c = crn 0 ∧ hI G 89 c = crn 1 ∧ hI G 90 c = crn 2 ∧ hI G 91 c = Int32.ofNat vt ∧ hR G 87 c = x)
    (t1 : TM γ G x T m e ∧ VwOK G x ∧ own x = 0 ∧ hb x) (t2 : ∀ d, d < 6 → th T d = true → own (e d) = 0 ∧ hb (e d) ∧ own (m d) = 0 ∧ hb (m d)) (t3 : ∀ d, d < 6 → th T d = decide (0 < crn (4 + 4 * d)))
    (d1 : ∀ d, d < 6 → th T d = true → DishF γ G (m d) (crn (4 + 4 * d)) (crn (4 + 4 * d + 1)) (crn (4 + 4 * d + 2)) (crn (4 + 4 * d + 3))) :
    wp (f_J2_add γ (ga 3) c G) (fun r => ∃ own1, Kt γ r.2 own1 (gaCr ga (nc S) c x m) (fun j => if j = nc S then T else tr j) (fun j => if j = nc S then e else et j) hb (addCr S crn vt) ms ∧ Fc (fun b => own b = 3) G r.2 ∧ Wf r.2 ∧ hS r.2 ≤ hS G + 1 ∧ hM r.2 ≤ hM G + 26 ∧ (∀ b, own b ≠ 0 → own1 b = own b)) := by
  have k0 := k
  obtain ⟨⟨b1, b2, b3, b4, b5⟩, k1, k2, k3, k4, k5, k6, kc, kl, ka, ko, kt, kd⟩ := k
  have hlt := hc.lt
  have hlen : (crs ga (nc S)).length = nc S := len3
  refine wp_mono (AL.push hw hlt k3.1 (v := c) (by rw [c1.1]; decide) (by omega)) (fun r hr => ?_)
  obtain ⟨r1, r2, r3, r4, r5, r6, r7, r8⟩ := hr
  have lc := hw.k c1.1 (by decide)
  have kx := t1.1.at0.1
  have lx := hw.k kx (by decide)
  have ke : ∀ d, d < 6 → th T d = true → hK G (e d) = 23 := fun d hd ht => (t1.1.ent hd ht).1
  have km : ∀ d, d < 6 → th T d = true → hK G (m d) = 22 := fun d hd ht => (t1.1.ent hd ht).2.2.2.2.1
  have fc : Fc (fun b => own b = 3) G r.2 := (r4.toC hw (fun b _ e => by
    rcases e with e | e
    · rw [e, k3.1.1]; decide
    · rw [e.1, k3.1.2.2.2.1]; decide)).mono (fun b _ e => by
    rcases e with e | e
    · rw [e]; exact k3.2.1
    · rw [e.1]; exact k3.2.2 (by rw [← e.1]; exact e.2))
  have hF := fc
  let old1 : Nat → Nat := fun b => if b = c then 60 + nc S else if b = x ∨ fnd T e b ≠ 0 then 70 + nc S else if fnd T m b ≠ 0 then 80 + 6 * nc S + (fnd T m b - 1) else own b
  let own1 : Nat → Nat := fun b => if b < hS G then old1 b else if b < hS r.2 ∧ ¬ (28 ≤ hK r.2 b ∧ hK r.2 b ≤ 32) then 3 else 0
  have oO : ∀ b, b < hS G → own1 b = old1 b := fun b q => if_pos q
  have z : ∀ b, own b ≠ 0 → old1 b = own b := fun b q => by
    show (if b = c then _ else _) = _
    rw [if_neg (fun e => q (by rw [e]; exact c1.2.2.1)), if_neg (fun w => by
      rcases w with w | w
      · exact q (by rw [w]; exact t1.2.2.1)
      · obtain ⟨d, h1, h2, h3, _⟩ := fnd_of w
        exact q (by rw [h3]; exact (t2 d h1 h2).1)), if_neg (fun w => by
      obtain ⟨d, h1, h2, h3, _⟩ := fnd_of w
      exact q (by rw [h3]; exact (t2 d h1 h2).2.2.1))]
  have hoo : ∀ b, own b ≠ 0 → own1 b = own b := fun b q => by
    have l : b < hS G := by
      rcases Nat.lt_or_ge b (hS G) with w | w
      · exact w
      · exact absurd (b2 b w) q
    rw [oO b l, z b q]
  have ho : ∀ b, b < hS G → own b ≠ 0 → own1 b = own b := fun b _ q => hoo b q
  -- which cells have a new tag
  have cs : ∀ b, old1 b = own b ∨ (old1 b ≠ 0 ∧ old1 b ≠ 9 ∧ hb b ∧ γ.2 < b ∧ (hK G b = 20 ∨ hK G b = 15 ∨ hK G b = 23 ∨ hK G b = 22)) := fun b => by
    by_cases e1 : b = c
    · right
      have o : old1 b = 60 + nc S := if_pos e1
      rw [o, e1]
      exact ⟨by omega, by omega, c1.2.2.2, c1.2.1, Or.inl c1.1⟩
    by_cases e2 : b = x ∨ fnd T e b ≠ 0
    · right
      have o : old1 b = 70 + nc S := by
        show (if b = c then _ else _) = _
        rw [if_neg e1, if_pos e2]
      rw [o]
      rcases e2 with w | w
      · rw [w]; exact ⟨by omega, by omega, t1.2.2.2, t1.1.at0.2.1, Or.inr (Or.inl kx)⟩
      · obtain ⟨d, h1, h2, h3, _⟩ := fnd_of w
        rw [h3]
        exact ⟨by omega, by omega, (t2 d h1 h2).2.1, (t1.1.ent h1 h2).2.1, Or.inr (Or.inr (Or.inl (ke d h1 h2)))⟩
    by_cases e3 : fnd T m b ≠ 0
    · right
      have o : old1 b = 80 + 6 * nc S + (fnd T m b - 1) := by
        show (if b = c then _ else _) = _
        rw [if_neg e1, if_neg e2, if_pos e3]
      rw [o]
      obtain ⟨d, h1, h2, h3, _⟩ := fnd_of e3
      exact ⟨by omega, by omega, by rw [h3]; exact (t2 d h1 h2).2.2.2, by rw [h3]; exact (t1.1.ent h1 h2).2.2.2.2.2, Or.inr (Or.inr (Or.inr (by rw [h3]; exact km d h1 h2)))⟩
    · left
      show (if b = c then _ else _) = _
      rw [if_neg e1, if_neg e2, if_neg e3]
  have oc : own1 c = 60 + nc S := by
    rw [oO c lc]; exact if_pos rfl
  have ox : own1 x = 70 + nc S := by
    rw [oO x lx]
    show (if x = c then _ else _) = _
    rw [if_neg (fun w => by rw [w, c1.1] at kx; exact absurd kx (by decide)), if_pos (Or.inl rfl)]
  have oe : ∀ d, d < 6 → th T d = true → own1 (e d) = 70 + nc S := fun d hd ht => by
    have k23 := ke d hd ht
    rw [oO _ (hw.k k23 (by decide))]
    show (if e d = c then _ else _) = _
    rw [if_neg (fun w => by rw [w, c1.1] at k23; exact absurd k23 (by decide)), if_pos (Or.inr (by rw [fnd_at hd ht (fun i hi ti w => (t1.1.inj hi hd ti ht).2 w)]; omega))]
  have om : ∀ d, d < 6 → th T d = true → own1 (m d) = 80 + 6 * nc S + d := fun d hd ht => by
    have k22 := km d hd ht
    have f1 := fnd_at hd ht (fun i hi ti w => (t1.1.inj hi hd ti ht).1 w)
    rw [oO _ (hw.k k22 (by decide))]
    show (if m d = c then _ else _) = _
    rw [if_neg (fun w => by rw [w, c1.1] at k22; exact absurd k22 (by decide)), if_neg (fun w => by
      rcases w with w | w
      · rw [w, kx] at k22; exact absurd k22 (by decide)
      · obtain ⟨d2, h1, h2, h3, _⟩ := fnd_of w
        rw [h3, ke d2 h1 h2] at k22; exact absurd k22 (by decide)), if_pos (by rw [f1]; omega), f1]
    omega
  have hg : ∀ t, t ≠ 60 + nc S → t ≠ 70 + nc S → (t < 80 + 6 * nc S ∨ 86 + 6 * nc S ≤ t) → gaCr ga (nc S) c x m t = ga t := fun t h1 h2 h3 => by
    unfold gaCr
    rw [if_neg h1, if_neg h2, if_neg (by omega)]
  have g60 : gaCr ga (nc S) c x m (60 + nc S) = c := if_pos rfl
  have g70 : gaCr ga (nc S) c x m (70 + nc S) = x := by
    unfold gaCr
    rw [if_neg (by omega), if_pos rfl]
  have g80 : ∀ d, d < 6 → gaCr ga (nc S) c x m (80 + 6 * nc S + d) = m d := fun d hd => by
    unfold gaCr
    rw [if_neg (by omega), if_neg (by omega), if_pos (by omega), show 80 + 6 * nc S + d - (80 + 6 * nc S) = d from by omega]
  have nt : ∀ t, t ≠ 3 → ∀ b, own b = t → ¬ own b = 3 := fun t h1 b q p => h1 (by rw [← q, p])
  have np : ∀ b, own b = 0 → ¬ own b = 3 := fun b q p => by omega
  have hlow : ∀ b, own b = 3 → γ.2 < b := fun b q => by
    rcases Nat.lt_or_ge γ.2 b with w | w
    · exact w
    · rw [b1 b w] at q; exact absurd q (by decide)
  have S1sc : ∀ j y, j ≠ nc S → sc (addCr S crn vt) j y = sc S j y := fun j y q => if_neg q
  have S1n : ∀ y, sc (addCr S crn vt) (nc S) y = crn y := fun y => if_pos rfl
  refine ⟨own1, ⟨⟨fun b hb2 => ?_, fun b hb2 => ?_, fun b q q9 => ?_, b4, by show nc S + 1 ≤ 8; omega, fun b q => ?_, fun b q1 q2 => ?_⟩, ?_, ?_, ?_, ?_, ?_, ?_, ?_, ?_, ?_, ?_, ?_, ?_⟩, fc, r5, r6, by omega, hoo⟩
  · rw [oO b (by omega)]
    rcases cs b with w | w
    · rw [w]; exact b1 b hb2
    · omega
  · have := r4.1
    show (if b < hS G then _ else _) = _
    rw [if_neg (show ¬ b < hS G by omega), if_neg (by omega)]
  · rcases Nat.lt_or_ge b (hS G) with w | w
    · rw [oO b w] at q q9
      rcases cs b with v | v
      · rw [v] at q q9; exact b3 b q q9
      · exact v.2.2.1
    · exact hB b w
  · rcases Nat.lt_or_ge b (hS G) with w | w
    · rw [oO b w] at q
      rw [hF.kind w]
      rcases cs b with v | v
      · rw [v] at q; exact b5.2.1 b q
      · exact absurd q v.2.1
    · have qq : own1 b = if b < hS r.2 ∧ ¬ (28 ≤ hK r.2 b ∧ hK r.2 b ≤ 32) then 3 else 0 := if_neg (by omega)
      rw [qq] at q
      split at q
      · exact absurd q (by decide)
      · exact absurd q (by decide)
  · rcases Nat.lt_or_ge b (hS G) with w | w
    · rw [hF.kind w] at q1 q2
      rw [oO b w]
      rcases cs b with v | v
      · rw [v]; exact b5.2.2 b q1 q2
      · omega
    · left
      show (if b < hS G then _ else _) = _
      rw [if_neg (show ¬ b < hS G by omega), if_neg (fun e => e.2 ⟨q1, q2⟩)]
  · have := k1.keep hw hF ho (nt 1 (by decide)) (S1 := addCr S crn vt) rfl rfl
    unfold K1
    rw [hg 1 (by omega) (by omega) (by omega), hg 2 (by omega) (by omega) (by omega), hg 3 (by omega) (by omega) (by omega), hg 4 (by omega) (by omega) (by omega), hg 6 (by omega) (by omega) (by omega)]
    exact this
  · have e3 : cks (gaCr ga (nc S) c x m) (nk S) = cks ga (nk S) := List.map_congr_left (fun i hi => by
      have := List.mem_range.mp hi
      exact hg _ (by omega) (by omega) (by omega))
    show ALo γ r.2 own1 (gaCr ga (nc S) c x m 2) 2 (cks (gaCr ga (nc S) c x m) (nk S))
    rw [e3, hg 2 (by omega) (by omega) (by omega)]
    exact k2.keep (by decide) hw hF ho (nt 2 (by decide))
  · have e2 : crs (gaCr ga (nc S) c x m) (nc S + 1) = crs ga (nc S) ++ [c] := by
      unfold crs
      rw [List.range_succ, List.map_append, List.map_singleton, g60]
      congr 1
      refine List.map_congr_left (fun i hi => ?_)
      have := List.mem_range.mp hi
      exact hg _ (by omega) (by omega) (by omega)
    show ALo γ r.2 own1 (gaCr ga (nc S) c x m 3) 3 (crs (gaCr ga (nc S) c x m) (nc S + 1))
    rw [e2, hg 3 (by omega) (by omega) (by omega)]
    refine ⟨r2, by rw [hoo _ (by rw [k3.2.1]; decide)]; exact k3.2.1, fun q => ?_⟩
    rcases r3 with e | e
    · rw [e] at q ⊢
      rw [hoo _ (by rw [k3.2.2 q]; decide)]; exact k3.2.2 q
    · have lq := r5.k r2.2.2.2.1 (by decide)
      have kq := r2.2.2.2.1
      rw [e] at lq kq ⊢
      show (if hS G < hS G then _ else _) = _
      rw [if_neg (Nat.lt_irrefl _), if_pos ⟨lq, by rw [kq]; decide⟩]
  · have := k4.keep hw hF ho (nt 4 (by decide)) (S1 := addCr S crn vt) rfl
    unfold K4
    rw [hg 4 (by omega) (by omega) (by omega), hg 5 (by omega) (by omega) (by omega)]
    exact this
  · rw [hg 5 (by omega) (by omega) (by omega)]
    exact k5.keep (by decide) hw hF ho (nt 5 (by decide)) (nt 9 (by decide))
  · rw [hg 6 (by omega) (by omega) (by omega)]
    exact k6.keep (by decide) hw hF ho (nt 6 (by decide)) (nt 9 (by decide))
  · intro i hi
    have hi2 : i < nk S := hi
    have := (kc i hi).keep hw hF ho (nt (10 + i) (by omega)) (S1 := addCr S crn vt) rfl rfl
    unfold KC
    rw [hg (10 + i) (by omega) (by omega) (by omega), hg (20 + i) (by omega) (by omega) (by omega), hg (30 + 3 * i) (by omega) (by omega) (by omega), hg (30 + 3 * i + 1) (by omega) (by omega) (by omega), hg (30 + 3 * i + 2) (by omega) (by omega) (by omega)]
    exact this
  · intro i hi
    have hi2 : i < nk S := hi
    rw [hg (20 + i) (by omega) (by omega) (by omega)]
    exact (kl i hi2).keep (by omega) hw hF ho (nt (20 + i) (by omega)) (nt 9 (by decide))
  · intro i hi b hb2
    have hi2 : i < nk S := hi
    have := (ka i hi2 b hb2).keep hw hF ho (nt _ (by omega)) (S1 := addCr S crn vt) (fun y hy => rfl)
    unfold KA
    rw [hg (30 + 3 * i + b) (by omega) (by omega) (by omega)]
    exact this
  · intro j hj
    have hj2 : j < nc S + 1 := hj
    by_cases w : j = nc S
    · subst w
      unfold KO
      rw [g60, g70, S1n, S1n, S1n, show sv (addCr S crn vt) (nc S) = vt from if_pos rfl]
      have n2 := np c c1.2.2.1
      exact ⟨by rw [hF.kind lc]; exact c1.1, c1.2.1, oc, by rw [hF.rI lc n2]; exact c2.1, by rw [hF.rI lc n2]; exact c2.2.1, by rw [hF.rI lc n2]; exact c2.2.2.1, by rw [hF.rI lc n2]; exact c2.2.2.2.1, by rw [hF.rR lc n2 (by decide)]; exact c2.2.2.2.2⟩
    · have := (ko j (by omega)).keep hw hF ho (nt (60 + j) (by omega)) (S1 := addCr S crn vt) (S1sc j 0 w) (S1sc j 1 w) (S1sc j 2 w) (if_neg w)
      unfold KO
      rw [hg (60 + j) (by omega) (by omega) (by omega), hg (70 + j) (by omega) (by omega) (by omega)]
      exact this
  · intro j hj
    have hj2 : j < nc S + 1 := hj
    by_cases w : j = nc S
    · subst w
      have tk := t1.1.keepC r5 hF hlow hc.b9 (np x t1.2.2.1) (fun i hi ti => np _ (t2 i hi ti).1)
      unfold KT
      rw [g70]
      refine ⟨?_, hF.2 x kx t1.2.1, ox, fun d hd hx => ?_, fun d hd => ?_⟩
      · show TM γ r.2 x (if nc S = nc S then T else tr (nc S)) (dmp (addCr S crn vt) (gaCr ga (nc S) c x m) (nc S)) (if nc S = nc S then e else et (nc S))
        rw [if_pos rfl, if_pos rfl]
        obtain ⟨q1, q2, φ, q3, q4, q5, q6⟩ := tk
        have em : ∀ d, d < 6 → dmp (addCr S crn vt) (gaCr ga (nc S) c x m) (nc S) d = if th T d = true then m d else 0 := fun d hd' => by
          unfold dmp isD
          rw [S1n, g80 d hd']
          have := t3 d hd'
          by_cases q : 0 < crn (4 + 4 * d)
          · rw [if_pos q, if_pos (by rw [this]; exact decide_eq_true q)]
          · rw [if_neg q, if_neg (by rw [this, decide_eq_false q]; decide)]
        exact ⟨q1, fun i hi ht => by rw [em i hi, if_neg (by rw [ht]; decide)]; exact ⟨rfl, (q2 i hi ht).2⟩, φ, q3, q4, q5, fun i hi ht => by rw [em i hi, if_pos ht]; exact q6 i hi ht⟩
      · show own1 ((if nc S = nc S then e else et (nc S)) d) = _
        rw [if_pos rfl]
        refine oe d hd ?_
        rw [t3 d hd]
        unfold isD at hx
        rw [S1n] at hx
        exact decide_eq_true hx
      · show th (if nc S = nc S then T else tr (nc S)) d = _
        rw [if_pos rfl, t3 d hd]
        unfold isD
        rw [S1n]
    · have kk := (kt j (by omega)).keep hw r5 hc hF hlow ho (nt (70 + j) (by omega)) (S1 := addCr S crn vt) (fun d _ => S1sc j _ w)
      unfold KT at kk ⊢
      rw [hg (70 + j) (by omega) (by omega) (by omega)]
      show TM γ r.2 (ga (70 + j)) (if j = nc S then T else tr j) (dmp (addCr S crn vt) (gaCr ga (nc S) c x m) j) (if j = nc S then e else et j) ∧ VwOK r.2 (ga (70 + j)) ∧ own1 (ga (70 + j)) = 70 + j ∧ (∀ d, d < 6 → isD (addCr S crn vt) j d → own1 ((if j = nc S then e else et j) d) = 70 + j) ∧ ∀ d, d < 6 → th (if j = nc S then T else tr j) d = decide (isD (addCr S crn vt) j d)
      rw [if_neg w, if_neg w]
      obtain ⟨v1, v2, v3, v4, v5⟩ := kk
      refine ⟨?_, v2, v3, v4, v5⟩
      obtain ⟨q1, q2, φ, q3, q4, q5, q6⟩ := v1
      have em : ∀ d, d < 6 → dmp (addCr S crn vt) (gaCr ga (nc S) c x m) j d = dmp (addCr S crn vt) ga j d := fun d hd' => by
        unfold dmp
        rw [hg (80 + 6 * j + d) (by omega) (by omega) (by omega)]
      exact ⟨q1, fun i hi ht => by rw [em i hi]; exact q2 i hi ht, φ, q3, q4, q5, fun i hi ht => by rw [em i hi]; exact q6 i hi ht⟩
  · intro j hj d hd hx
    have hj2 : j < nc S + 1 := hj
    by_cases w : j = nc S
    · subst w
      have ht : th T d = true := by
        rw [t3 d hd]
        unfold isD at hx
        rw [S1n] at hx
        exact decide_eq_true hx
      have lm := hw.k (km d hd ht) (by decide)
      have n2 := np _ (t2 d hd ht).2.2.1
      obtain ⟨y1, y2, y3, y4, y5, y6, y7⟩ := d1 d hd ht
      unfold KD
      rw [g80 d hd, S1n, S1n, S1n, S1n]
      exact ⟨by rw [hF.kind lm]; exact y1, y2, om d hd ht, by rw [hF.rI lm n2]; exact y3, by rw [hF.rI lm n2]; exact y4, by rw [hF.rR lm n2 (by decide)]; exact y5, by rw [hF.rI lm n2]; exact y6, y7⟩
    · have hx' : isD S j d := by
        unfold isD at hx ⊢
        rw [S1sc j _ w] at hx; exact hx
      have := (kd j (by omega) d hd hx').keep hw hF ho (nt (80 + 6 * j + d) (by omega)) (S1 := addCr S crn vt) (S1sc j _ w) (S1sc j _ w) (S1sc j _ w) (S1sc j _ w)
      unfold KD
      rw [hg (80 + 6 * j + d) (by omega) (by omega) (by omega)]
      exact this
end KADD2
