/-- what holds while a minute goes: rest is still to arrive, ms is on its way -/
def JC (J : St → List Ms → List Ms → Prop) : Prop := (∀ S m rest ms, J S (m :: rest) ms → Ok S ∧ Vm S m ∧ ms.length + 6 < 10000 ∧ J (arrivesP S m).1 rest (ms ++ (arrivesP S m).2)) ∧ (∀ S ms j, J S [] ms → j < nc S → Ok S ∧ ms.length + 6 < 10000 ∧ J (patP j (S, ms)).1 [] (patP j (S, ms)).2) ∧ ∀ S ms, J S [] ms → Ok S ∧ ms.length < 9800
section C12
variable {γ : GP} {G G1 : AH} {ga : Nat → Nat} {tr : Nat → List Nat} {et : Nat → Nat → Nat} {S : St} {hb : Nat → Prop} {ms : List Ms}
theorem KS.thoseLoop {B : Nat → Prop} {it : Nat} {v : Int32} (hit : ¬ B it) (n : Nat) : ∀ (j : Nat) (s : Int32) (G : AH), nc S - j < n → j ≤ nc S → KS γ ga tr et B S ms G → AIt γ G it (ga 3) j →
    wp (f_X2_those_L12 γ v it n s G) (fun r => r.1 = fo (thoseT S v) (nc S - j) j s ∧ KS γ ga tr et B S ms r.2 ∧ Stq (fun a => B a ∨ a = it) G r.2 0 0) := by
  induction n with
  | zero => intro j s G hk; exact absurd hk (Nat.not_lt_zero _)
  | succ n ih =>
    intro j s G hn hj h t
    unfold f_X2_those_L12
    refine h.courseStep t hit hj (fun e => ?_) (fun hj2 G1 h1 t1 s1 => ?_)
    · refine wp_some ⟨?_, h, Stq.refl h.1 0 0⟩
      rw [show nc S - j = 0 from by omega]; rfl
    · have hstep : ∀ s', thoseT S v j s = s' → wp (f_X2_those_L12 γ v it n s' G1) (fun r => r.1 = fo (thoseT S v) (nc S - j) j s ∧ KS γ ga tr et B S ms r.2 ∧ Stq (fun a => B a ∨ a = it) G r.2 0 0) := by
        intro s' es
        refine wp_mono (ih (j + 1) s' G1 (by omega) (by omega) h1 t1) (fun r hr => ⟨?_, hr.2.1, (s1.trans h.1 hr.2.2).mono (by omega) (by omega)⟩)
        rw [hr.1, show nc S - j = (nc S - (j + 1)) + 1 from by omega, fo_in, es]
      rw [if_pos (h1.ko hj2).1, h1.phase hj2, bI_some]
      by_cases c : sc S j 0 = v
      · rw [if_pos c]; exact hstep _ (if_pos c)
      · rw [if_neg c, Int32.add_zero]; exact hstep _ (if_neg c)
theorem KS.those {v : Int32} (h : KS γ ga tr et hb S ms G) : wp (f_X2_those γ (ga 1) v G) (fun r => r.1 = thoseP S v ∧ KS γ ga tr et hb S ms r.2 ∧ Stq hb G r.2 1 4) := by
  have hn := h.bnd
  unfold f_X2_those
  rw [gR_ok (okf h.isK (by decide)), h.k1.2.2.1]
  refine h.courseLoop (fun it G2 h2 t2 s2 hb2 hit => ?_)
  refine wp_mono (KS.thoseLoop (fun q => q.2 rfl) FU 0 0 G2 (by show nc S - 0 < 4294967296; omega) (Nat.zero_le _) h2 t2) (fun r hr => ⟨hr.1, hr.2.1.mono (fun a q => q.1) h.2.2.1, ?_⟩)
  refine (s2.trans h.1 (hr.2.2.wide (fun a _ q => ?_))).mono (by omega) (by omega)
  rcases q with q | q
  · exact q.1
  · rw [q]; exact hb2
theorem KS.decided (h : KS γ ga tr et hb S ms G) : wp (f_X2_decided γ (ga 1) G) (fun r => r.1 = decidedP S ∧ KS γ ga tr et hb S ms r.2 ∧ Stq hb G r.2 2 8) := by
  unfold f_X2_decided
  refine wp_bI (wp_ifc h.isK (wp_mono (h.those (v := 2)) (fun r hr => ?_)))
  obtain ⟨r1, h1, s1⟩ := hr
  refine wp_bI (wp_ifc h1.isK (wp_mono (h1.those (v := 3)) (fun r2 hr2 => wp_some ⟨?_, hr2.2.1, s1.trans h.1 hr2.2.2⟩)))
  rw [r1, hr2.1]; rfl
theorem KS.faintLoop {B : Nat → Prop} {it : Nat} (ho : ∀ i, i < nk S → sk S i 1 = 0 ∨ sk S i 1 = 1) (hit : ¬ B it) (n : Nat) : ∀ (j : Nat) (s : Int32) (G : AH), nk S - j < n → j ≤ nk S → KS γ ga tr et B S ms G → AIt γ G it (ga 2) j →
    wp (f_X2_fainted_L26 γ it n s G) (fun r => r.1 = fo (faintT S) (nk S - j) j s ∧ KS γ ga tr et B S ms r.2 ∧ Stq (fun a => B a ∨ a = it) G r.2 0 0) := by
  induction n with
  | zero => intro j s G hk; exact absurd hk (Nat.not_lt_zero _)
  | succ n ih =>
    intro j s G hn hj h t
    unfold f_X2_fainted_L26
    refine h.cookStep t hit hj (fun e => ?_) (fun hj2 G1 h1 t1 s1 => ?_)
    · refine wp_some ⟨?_, h, Stq.refl h.1 0 0⟩
      rw [show nk S - j = 0 from by omega]; rfl
    · have hstep : ∀ s', faintT S j s = s' → wp (f_X2_fainted_L26 γ it n s' G1) (fun r => r.1 = fo (faintT S) (nk S - j) j s ∧ KS γ ga tr et B S ms r.2 ∧ Stq (fun a => B a ∨ a = it) G r.2 0 0) := by
        intro s' es
        refine wp_mono (ih (j + 1) s' G1 (by omega) (by omega) h1 t1) (fun r hr => ⟨?_, hr.2.1, (s1.trans h.1 hr.2.2).mono (by omega) (by omega)⟩)
        rw [hr.1, show nk S - j = (nk S - (j + 1)) + 1 from by omega, fo_in, es]
      rw [if_pos (h1.kc hj2).1]
      unfold f_X3_hasFainted
      rw [gI_ok (okf (h1.kc hj2).1 (by decide)), (h1.kc hj2).2.2.1, rtB (ho j hj2), bI_some]
      by_cases c : sk S j 1 = 0
      · rw [if_pos c, Int32.add_zero]; exact hstep _ (if_pos c)
      · rw [if_neg c]; exact hstep _ (if_neg c)
theorem KS.fainted (h : KS γ ga tr et hb S ms G) (ho : ∀ i, i < nk S → sk S i 1 = 0 ∨ sk S i 1 = 1) (h3 : sg S 3 = 0 ∨ sg S 3 = 1) : wp (f_X2_fainted γ (ga 1) G) (fun r => r.1 = faintedP S ∧ KS γ ga tr et hb S ms r.2 ∧ Stq hb G r.2 1 4) := by
  have hn := h.bnd
  unfold f_X2_fainted
  rw [gR_ok (okf h.isK (by decide)), h.k1.2.2.2.1, if_pos h.k4.1]
  unfold f_X3_hasFainted
  rw [gI_ok (okf h.k4.1 (by decide)), h.k4.2.1, rtB h3, bI_some]
  unfold jn
  dsimp only
  have fin : ∀ z : Int32, z = (if sg S 3 = 0 then 0 else 1) → wp (gR G (ga 1) 8 fun v7 => bR (if hK G v7 = 3 then f_J2_iterator γ v7 G else none) fun v9 g8 => f_X2_fainted_L26 γ v9 FU z g8) (fun r => r.1 = faintedP S ∧ KS γ ga tr et hb S ms r.2 ∧ Stq hb G r.2 1 4) := by
    intro z hz
    rw [gR_ok (okf h.isK (by decide)), h.k1.2.1]
    refine h.cookLoop (fun it G2 h2 t2 s2 hb2 hit => ?_)
    refine wp_mono (KS.faintLoop ho (fun q => q.2 rfl) FU 0 z G2 (by show nk S - 0 < 4294967296; omega) (Nat.zero_le _) h2 t2) (fun r hr => ⟨by rw [hr.1, hz]; rfl, hr.2.1.mono (fun a q => q.1) h.2.2.1, ?_⟩)
    refine (s2.trans h.1 (hr.2.2.wide (fun a _ q => ?_))).mono (by omega) (by omega)
    rcases q with q | q
    · exact q.1
    · rw [q]; exact hb2
  exact wp_ite (fun e => fin 0 (by rw [if_pos e])) (fun e => fin 1 (by rw [if_neg e]))
/-- patience from JC -/
theorem KS.patJ {J : St → List Ms → List Ms → Prop} (hJ : JC J) (h : KS γ ga tr et hb S ms G) (p : J S [] ms) :
    wp (f_X2_losesPatience γ (ga 1) G) (fun r => KS γ ga tr et hb (fo patP (nc S) 0 (S, ms)).1 (fo patP (nc S) 0 (S, ms)).2 r ∧ Stq hb G r 128 800) :=
  KS.patience (PH := fun S ms _ => J S [] ms) (fun S ms j q hj => hJ.2.1 S ms j q hj) h p (hJ.2.2 S ms p).1.2.2.2.2
theorem patJ_end {J : St → List Ms → List Ms → Prop} (hJ : JC J) (m : Nat) : ∀ (k : Nat) (q : St × List Ms), k + m ≤ nc q.1 → J q.1 [] q.2 → J (fo patP m k q).1 [] (fo patP m k q).2 := by
  induction m with
  | zero => intro k q _ p; exact p
  | succ m ih =>
    intro k q hk p
    rw [fo_in]
    have n := patP_nc (j := k) (q := q)
    exact ih (k + 1) (patP k q) (by rw [n.1]; omega) (hJ.2.1 q.1 q.2 k p (by omega)).2.2
theorem arrJ {J : St → List Ms → List Ms → Prop} (hJ : JC J) (l : List Ms) : ∀ q : St × List Ms, J q.1 l q.2 → J (arrAll l q).1 [] (arrAll l q).2 := by
  induction l with
  | nil => intro q p; exact p
  | cons m l ih =>
    intro q p
    exact ih (arr1 q m) (hJ.1 q.1 m l q.2 p).2.2.2
theorem KS.minute {J : St → List Ms → List Ms → Prop} (hJ : JC J) (h : KS γ ga tr et hb S ms G) (hl : ms.length < 90000) (p : J (usg S 0 (sg S 0 + 1)) (ms.filter (isNow (usg S 0 (sg S 0 + 1)))) (ms.filter (fun m => !isNow (usg S 0 (sg S 0 + 1)) m)))
    {Q : AH → Prop} {K : AH → Option AH} (k : ∀ r, KS γ ga tr et hb (minP (S, ms)).1 (minP (S, ms)).2 r → Stq hb G r (229 + 2 * ms.length + 16 * (ms.filter (isNow (usg S 0 (sg S 0 + 1)))).length) (1183 + 12 * ms.length + 100 * (ms.filter (isNow (usg S 0 (sg S 0 + 1)))).length) → wp (K r) Q) :
    wp (gI G (ga 1) 12 fun v3 => pI γ G (ga 1) 12 (v3 + (1 : Int32)) fun g4 => bV (if hK g4 (ga 1) = 2 then f_X2_allArrive γ (ga 1) g4 else none) fun g5 => bV (if hK g5 (ga 1) = 2 then f_X2_losesPatience γ (ga 1) g5 else none) fun g6 => bV (if hK g6 (ga 1) = 2 then f_X2_allAsk γ (ga 1) g6 else none) K) Q := by
  rw [gI_ok (okf h.isK (by decide)), h.k1.2.2.2.2.2.1]
  refine h.pMin (fun h1 s1 => wp_bV (wp_ifc h1.isK (wp_mono (h1.allArrive hJ.1 p hl) (fun r2 hr2 => ?_))))
  obtain ⟨h2, s2⟩ := hr2
  have p2 : J (minA (S, ms)).1 [] (minA (S, ms)).2 := arrJ hJ _ _ p
  refine wp_bV (wp_ifc h2.isK (wp_mono (KS.patJ (S := (minA (S, ms)).1) (ms := (minA (S, ms)).2) hJ h2 p2) (fun r3 hr3 => ?_)))
  obtain ⟨h3, s3⟩ := hr3
  have p3 : J (minB (S, ms)).1 [] (minB (S, ms)).2 := patJ_end hJ _ _ _ (by show 0 + nc (minA (S, ms)).1 ≤ nc (minA (S, ms)).1; omega) p2
  have o3 := hJ.2.2 _ _ p3
  refine wp_bV (wp_ifc h3.isK (wp_mono (KS.allAsk (S := (minB (S, ms)).1) (ms := (minB (S, ms)).2) h3 o3.1 o3.2) (fun r4 hr4 => k r4 hr4.1 ?_)))
  exact (((s1.trans h.1 s2).trans h.1 s3).trans h.1 hr4.2).mono (by omega) (by omega)
end C12
