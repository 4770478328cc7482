section C15
variable {γ : GP} {G G1 : AH} {ga : Nat → Nat} {tr : Nat → List Nat} {et : Nat → Nat → Nat} {S : St} {hb : Nat → Prop} {ms : List Ms}
theorem KS.cancels {j : Nat} (h : KS γ ga tr et hb S ms G) (hj : j < nc S) (o : Ok S) (hl : ms.length + 6 < 10000) : wp (f_X2_cancels γ (ga 1) (Int32.ofNat j) G) (CmdQ γ ga tr et hb G ms 16 100 (cancelsP S j)) := by
  unfold f_X2_cancels cancelsP
  rw [gR_ok (okf h.isK (by decide)), h.k1.2.2.2.1, if_pos h.k4.1]
  unfold f_X3_hasFainted
  rw [gI_ok (okf h.k4.1 (by decide)), h.k4.2.1, rtB o.2.2.2.2, bI_some]
  unfold jn
  dsimp only
  by_cases c3 : sg S 3 = 0
  · rw [if_pos c3, if_pos c3, meet_ok (by decide), if_pos h.isK, h.course hj, bR_some, if_pos (h.ko hj).1]
    unfold f_X7_isDecided
    rw [gI_ok (okf (h.ko hj).1 (by decide)), (h.ko hj).2.1]
    by_cases c : sc S j 0 < 2
    · rw [if_pos c, if_pos c, show rtN .boolean (0 : Int32) G = some (0, G) from rfl, bI_some, if_pos rfl, if_pos (h.ko hj).1, h.phase hj, bI_some, meet_ok (by decide)]
      refine wp_bV (wp_ifc h.isK (wp_mono (h.settles (v := 3) hj (o.1 0 (by decide))) (fun r hr => ?_)))
      obtain ⟨h1, s1⟩ := hr
      refine wp_bI (wp_ifc h1.isK (wp_mono (h1.sendsAll (j := j) hj (fun d hd hx => o.dn hj d hd (settles_isD.mp hx)) hl) (fun r2 hr2 => ?_)))
      obtain ⟨e, h2, s2⟩ := hr2
      have ed : decn (settlesP S j 3) j = 4 := by
        unfold decn
        rw [settles_ph]; rfl
      rw [ed] at h2
      have edk : dks (settlesP S j 3) j = dks S j := List.filter_congr (fun d _ => decide_eq_decide.mpr settles_isD)
      rw [edk] at e
      exact wp_some ⟨r2.2, by rw [← e], h2, (s1.trans h.1 s2).mono (by omega) (by omega)⟩
    · rw [if_neg c, if_neg c, show rtN .boolean (1 : Int32) G = some (1, G) from rfl, bI_some, if_neg (by decide), if_pos (h.ko hj).1, h.phase hj, bI_some]
      exact h.refuse rfl (by decide) (by decide)
  · rw [if_neg c3, if_neg c3]
    exact h.refuse rfl (by decide) (by decide)
def wA (ga : Nat → Nat) (w : Nat) : Nat := if w = 0 then ga 4 else ga (10 + (w - 1))
theorem KS.whoF {w : Nat} (h : KS γ ga tr et hb S ms G) (hw : w < nk S + 1) : f_X2_who γ (ga 1) (wv w) G = some (wA ga w, G) := by
  unfold wv wA
  by_cases c : w = 0
  · rw [if_pos c, if_pos c]; exact h.whoH
  · rw [if_neg c, if_neg c]; exact h.who0 (by omega)
theorem Ok.out (o : Ok S) {w : Nat} (hw : w < nk S + 1) : outS S w = 0 ∨ outS S w = 1 := by
  unfold outS
  by_cases c : w = 0
  · rw [if_pos c]; exact o.2.2.2.2
  · rw [if_neg c]; exact o.2.2.2.1 _ (by omega)
theorem KS.outF {w : Nat} (h : KS γ ga tr et hb S ms G) (o : Ok S) (hw : w < nk S + 1) : (if hK G (wA ga w) = 16 then f_X3_hasFainted γ (wA ga w) G else if hK G (wA ga w) = 4 then f_X3_hasFainted γ (wA ga w) G else none) = some (outS S w, G) := by
  have q := o.out hw
  unfold wA outS at *
  by_cases c : w = 0
  · rw [if_pos c] at q ⊢
    rw [if_pos c]
    exact KS.faintF h.k4.1 (Or.inr rfl) h.k4.2.1 q
  · rw [if_neg c] at q ⊢
    rw [if_neg c]
    exact KS.faintF (h.kc (by omega)).1 (Or.inl rfl) (h.kc (by omega)).2.2.1 q
theorem KS.setF {w : Nat} {v : Int32} {β : Type} {Q : β → Prop} {K : AH → Option β} (h : KS γ ga tr et hb S ms G) (hw : w < nk S + 1) (hv : v = 0 ∨ v = 1) (k : ∀ r, KS γ ga tr et hb (setOut S w v) ms r → Stq hb G r 0 0 → wp (K r) Q) :
    wp (bV (if hK G (wA ga w) = 16 then f_X3_faints γ (wA ga w) v G else if hK G (wA ga w) = 4 then f_X3_faints γ (wA ga w) v G else none) K) Q := by
  unfold wA
  unfold setOut at k
  by_cases c : w = 0
  · rw [if_pos c]
    rw [if_pos c] at k
    rw [if_neg (by rw [h.k4.1]; decide), if_pos h.k4.1]
    unfold f_X3_faints
    exact wp_bV (h.pOut hv (fun h1 s1 => wp_some (k _ h1 s1)))
  · rw [if_neg c]
    rw [if_neg c] at k
    rw [if_pos (h.kc (i := w - 1) (by omega)).1]
    unfold f_X3_faints
    exact wp_bV (h.pFaint (i := w - 1) (by omega) hv (fun h1 s1 => wp_some (k _ h1 s1)))
theorem setOut_nk {w : Nat} {v : Int32} : nk (setOut S w v) = nk S ∧ nc (setOut S w v) = nc S := by
  unfold setOut
  split
  · exact ⟨rfl, rfl⟩
  · exact ⟨rfl, rfl⟩
theorem Ok.setO {w : Nat} {v : Int32} (o : Ok S) (hv : v = 0 ∨ v = 1) : Ok (setOut S w v) := by
  obtain ⟨o1, o2, o3, o4, o5⟩ := o
  unfold setOut
  by_cases c : w = 0
  · rw [if_pos c]
    exact ⟨o1, o2, o3, o4, by rw [sg_usg, if_pos rfl]; exact hv⟩
  · rw [if_neg c]
    refine ⟨o1, o2, o3, fun i hi => ?_, o5⟩
    rw [sk_usk]
    split
    · exact hv
    · exact o4 i hi
theorem KS.faints {w : Nat} (h : KS γ ga tr et hb S ms G) (o : Ok S) (hw : w < nk S + 1) : wp (f_X2_faints γ (ga 1) (wv w) G) (CmdQ γ ga tr et hb G ms 1 8 (faintsP S w)) := by
  unfold f_X2_faints faintsP
  rw [if_pos h.isK, h.whoF hw, bR_some, h.outF o hw, bI_some]
  unfold jn
  dsimp only
  by_cases c : outS S w = 0
  · rw [if_pos c, if_pos c, meet_ok (by decide), if_pos h.isK, h.whoF hw, bR_some]
    refine h.setF hw (Or.inr rfl) (fun r h1 s1 => ?_)
    have o1 : Ok (setOut S w 1) := o.setO (Or.inr rfl)
    refine wp_bI (wp_ifc h1.isK (wp_mono (h1.fainted o1.2.2.2.1 o1.2.2.2.2) (fun r2 hr2 => wp_some ⟨r2.2, by rw [← hr2.1], by rw [List.append_nil]; exact hr2.2.1, (s1.trans h.1 hr2.2.2).mono (by omega) (by omega)⟩)))
  · rw [if_neg c, if_neg c]
    exact h.refuse rfl (by decide) (by decide)
theorem settles_nc {j : Nat} {v : Int32} : nc (settlesP S j v) = nc S ∧ nk (settlesP S j v) = nk S := ⟨rfl, rfl⟩
theorem wk1_nc {j : Nat} : nc (wk1 j S) = nc S ∧ nk (wk1 j S) = nk S := by
  unfold wk1
  split
  · exact ⟨rfl, rfl⟩
  · exact ⟨rfl, rfl⟩
theorem KS.hostLoop2 (n : Nat) (hDn : ∀ j, j < nc S → ∀ d, d < 6 → isD S j d → d < nk S) : ∀ (j : Nat) (v : Int32) (l : List Ms) (G : AH), nc S - j < n → j ≤ nc S → KS γ ga tr et hb S (ms ++ l) G → (ms ++ l).length + 60 < 10000 + 6 * j →
    wp (f_X2_hostWakes_L43 γ (ga 1) n v (Int32.ofNat j) G) (fun r => r.1 = (fo (wk2 S) (nc S - j) j (v, l)).1 ∧ KS γ ga tr et hb S (ms ++ (fo (wk2 S) (nc S - j) j (v, l)).2) r.2 ∧ Stq hb G r.2 (14 * (nc S - j)) (47 * (nc S - j))) := by
  induction n with
  | zero => intro j v l G hk; exact absurd hk (Nat.not_lt_zero _)
  | succ n ih =>
    intro j v l G hn hj h hl
    have hb8 := h.bnd
    unfold f_X2_hostWakes_L43
    rw [gR_ok (okf h.isK (by decide)), h.k1.2.2.1, h.ncF, bI_some]
    by_cases c : nc S ≤ j
    · rw [if_pos ((i_le (by omega) (by omega)).mpr c), show nc S - j = 0 from by omega]
      exact wp_some ⟨rfl, h, Stq.refl h.1 _ _⟩
    · rw [if_neg (fun e => c ((i_le (by omega) (by omega)).mp e)), if_pos h.isK]
      have hj2 : j < nc S := by omega
      have em : nc S - j = (nc S - (j + 1)) + 1 := by omega
      rw [h.course hj2, bR_some, if_pos (h.ko hj2).1]
      unfold f_X7_isDecided
      rw [gI_ok (okf (h.ko hj2).1 (by decide)), (h.ko hj2).2.1, em, fo_in]
      by_cases c2 : sc S j 0 < 2
      · rw [if_pos c2, show rtN .boolean (0 : Int32) G = some (0, G) from rfl, bI_some, if_pos rfl, Int32.add_zero, i_one, show wk2 S j (v, l) = (v, l) from if_pos c2]
        exact wp_mono (ih (j + 1) v l G (by omega) (by omega) h (by omega)) (fun r hr => ⟨hr.1, hr.2.1, hr.2.2.mono (by omega) (by omega)⟩)
      · rw [if_neg c2, show rtN .boolean (1 : Int32) G = some (1, G) from rfl, bI_some, if_neg (by decide), show wk2 S j (v, l) = (v + Int32.ofNat (dks S j).length, l ++ sendsP S (decn S j) j) from if_neg c2]
        refine wp_bI (wp_ifc h.isK (wp_mono (h.sendsAll hj2 (hDn j hj2) (by omega)) (fun r hr => ?_)))
        obtain ⟨e, h1, s1⟩ := hr
        rw [e, i_one]
        rw [List.append_assoc] at h1
        have hd := dks_le (S := S) j
        have hsl : (sendsP S (decn S j) j).length = (dks S j).length := List.length_map _
        refine wp_mono (ih (j + 1) _ _ r.2 (by omega) (by omega) h1 (by rw [List.length_append] at hl ⊢; rw [List.length_append, hsl]; omega)) (fun r2 hr2 => ⟨hr2.1, hr2.2.1, (s1.trans h.1 hr2.2.2).mono (by omega) (by omega)⟩)
theorem wk1_D (m : Nat) : ∀ (k : Nat) (S : St) (j d : Nat), isD (fo wk1 m k S) j d ↔ isD S j d := by
  induction m with
  | zero => intro k S j d; exact Iff.rfl
  | succ m ih =>
    intro k S j d
    rw [fo_in, ih]
    unfold wk1
    split
    · exact settles_isD
    · exact Iff.rfl
theorem hostW_nk (m : Nat) : ∀ (k : Nat) (S : St), nk (fo wk1 m k S) = nk S ∧ nc (fo wk1 m k S) = nc S := by
  induction m with
  | zero => intro k S; exact ⟨rfl, rfl⟩
  | succ m ih =>
    intro k S
    rw [fo_in]
    have a := ih (k + 1) (wk1 k S)
    have b := wk1_nc (S := S) (j := k)
    exact ⟨a.1.trans b.2, a.2.trans b.1⟩
theorem KS.hostLoop1 {PH : St → Nat → Prop} (hP : ∀ S j, PH S j → j < nc S → (sl S 0).length ≤ 20 ∧ PH (wk1 j S) (j + 1)) (n : Nat) : ∀ (j : Nat) (S : St) (G : AH), nc S - j < n → j ≤ nc S → KS γ ga tr et hb S ms G → PH S j → (∀ j, j < nc S → ∀ d, d < 6 → isD S j d → d < nk S) → ms.length + 60 < 10000 →
    wp (f_X2_hostWakes_L2 γ (ga 1) n (Int32.ofNat j) G) (fun r => r.1 = (fo (wk2 (fo wk1 (nc S - j) j S)) (nc S) 0 (0, [])).1 ∧ KS γ ga tr et hb (fo wk1 (nc S - j) j S) (ms ++ (fo (wk2 (fo wk1 (nc S - j) j S)) (nc S) 0 (0, [])).2) r.2 ∧ Stq hb G r.2 (14 * nc S + 2 * (nc S - j)) (47 * nc S + 53 * (nc S - j))) := by
  induction n with
  | zero => intro j S G hk; exact absurd hk (Nat.not_lt_zero _)
  | succ n ih =>
    intro j S G hn hj h p hDn hl
    have hb8 := h.bnd
    unfold f_X2_hostWakes_L2
    rw [gR_ok (okf h.isK (by decide)), h.k1.2.2.1, h.ncF, bI_some]
    by_cases c : nc S ≤ j
    · rw [if_pos ((i_le (by omega) (by omega)).mpr c), show nc S - j = 0 from by omega]
      show wp (f_X2_hostWakes_L43 γ (ga 1) FU 0 (Int32.ofNat 0) G) _
      have h' : KS γ ga tr et hb S (ms ++ []) G := by rw [List.append_nil]; exact h
      exact wp_mono (KS.hostLoop2 FU hDn 0 0 [] G (by show _ < 4294967296; omega) (Nat.zero_le _) h' (by rw [List.append_nil]; omega)) (fun r hr => ⟨hr.1, hr.2.1, hr.2.2.mono (by omega) (by omega)⟩)
    · rw [if_neg (fun e => c ((i_le (by omega) (by omega)).mp e)), if_pos h.isK]
      have hj2 : j < nc S := by omega
      obtain ⟨hl20, p2⟩ := hP S j p hj2
      have em : nc S - j = (nc S - (j + 1)) + 1 := by omega
      rw [h.course hj2, bR_some, if_pos (h.ko hj2).1, h.phase hj2, bI_some, em, fo_in]
      by_cases c1 : sc S j 0 = 1
      · have e : wk1 j S = settlesP S j 3 := if_pos c1
        rw [if_pos c1, e]
        rw [e] at p2
        refine wp_bV (wp_ifc h.isK (wp_mono (h.settles (v := 3) hj2 hl20) (fun r hr => ?_)))
        obtain ⟨h1, s1⟩ := hr
        rw [i_one]
        exact wp_mono (ih (j + 1) (settlesP S j 3) r (by show nc S - (j + 1) < n; omega) (by show j + 1 ≤ nc S; omega) h1 p2 (fun j2 hj2 d hd hx => hDn j2 hj2 d hd (settles_isD.mp hx)) hl) (fun r2 hr2 => ⟨hr2.1, hr2.2.1, (s1.trans h.1 hr2.2.2).mono (by show 2 + (14 * nc S + 2 * (nc S - (j + 1))) ≤ _; omega) (by show 53 + (47 * nc S + 53 * (nc S - (j + 1))) ≤ _; omega)⟩)
      · have e : wk1 j S = S := if_neg c1
        rw [if_neg c1, e, i_one]
        rw [e] at p2
        exact wp_mono (ih (j + 1) S G (by omega) (by omega) h p2 hDn hl) (fun r2 hr2 => ⟨hr2.1, hr2.2.1, hr2.2.2.mono (by omega) (by omega)⟩)
theorem KS.cookLoopW {i : Nat} (hi : i < nk S) (n : Nat) : ∀ (j : Nat) (v : Int32) (l : List Ms) (G : AH), nc S - j < n → j ≤ nc S → KS γ ga tr et hb S (ms ++ l) G → (ms ++ l).length + 60 < 10000 + j →
    wp (f_X2_cookWakes_L4 γ (ga 1) (Int32.ofNat i) n v (Int32.ofNat j) G) (fun r => r.1 = (fo (wk3 S i) (nc S - j) j (v, l)).1 ∧ KS γ ga tr et hb S (ms ++ (fo (wk3 S i) (nc S - j) j (v, l)).2) r.2 ∧ Stq hb G r.2 (2 * (nc S - j)) (6 * (nc S - j))) := by
  induction n with
  | zero => intro j v l G hk; exact absurd hk (Nat.not_lt_zero _)
  | succ n ih =>
    intro j v l G hn hj h hl
    have hb8 := h.bnd
    have hi6 := h.nk_ hi
    unfold f_X2_cookWakes_L4
    rw [gR_ok (okf h.isK (by decide)), h.k1.2.2.1, h.ncF, bI_some]
    by_cases c : nc S ≤ j
    · rw [if_pos ((i_le (by omega) (by omega)).mpr c), show nc S - j = 0 from by omega]
      exact wp_some ⟨rfl, h, Stq.refl h.1 _ _⟩
    · rw [if_neg (fun e => c ((i_le (by omega) (by omega)).mp e)), if_pos h.isK]
      have hj2 : j < nc S := by omega
      have em : nc S - j = (nc S - (j + 1)) + 1 := by omega
      rw [h.course hj2, bR_some, if_pos (h.ko hj2).1, h.of hj2 hi6, bR_some, em, fo_in, i_one]
      have skip : ¬ (isD S j i ∧ hw S j i = 1) → wp (f_X2_cookWakes_L4 γ (ga 1) (Int32.ofNat i) n v (Int32.ofNat (j + 1)) G) (fun r => r.1 = (fo (wk3 S i) (nc S - (j + 1)) (j + 1) (wk3 S i j (v, l))).1 ∧ KS γ ga tr et hb S (ms ++ (fo (wk3 S i) (nc S - (j + 1)) (j + 1) (wk3 S i j (v, l))).2) r.2 ∧ Stq hb G r.2 (2 * (nc S - (j + 1) + 1)) (6 * (nc S - (j + 1) + 1))) := by
        intro q
        rw [show wk3 S i j (v, l) = (v, l) from if_neg q]
        exact wp_mono (ih (j + 1) v l G (by omega) (by omega) h (by omega)) (fun r hr => ⟨hr.1, hr.2.1, hr.2.2.mono (by omega) (by omega)⟩)
      by_cases hx : isD S j i
      · have e := (h.dmp0 hj2 hi6).1 hx
        rw [if_neg e.2, e.1, if_pos (h.kd hj2 hi6 hx).1, h.isReady hj2 hi6 hx, bI_some]
        by_cases c1 : hw S j i = 1
        · rw [if_pos c1, if_neg (by decide)]
          refine wp_bV (wp_ifc h.isK (wp_mono (h.asksHost hj2 hi (by omega)) (fun r hr => ?_)))
          obtain ⟨h1, s1⟩ := hr
          rw [List.append_assoc] at h1
          rw [show wk3 S i j (v, l) = (v + 1, l ++ [mg S 5 i j]) from if_pos ⟨hx, c1⟩]
          refine wp_mono (ih (j + 1) (v + 1) _ r (by omega) (by omega) h1 (by rw [← List.append_assoc, List.length_append]; show (ms ++ l).length + 1 + 60 < _; omega)) (fun r2 hr2 => ⟨hr2.1, hr2.2.1, (s1.trans h.1 hr2.2.2).mono (by omega) (by omega)⟩)
        · rw [if_neg c1, if_pos rfl]
          exact skip (fun q => c1 q.2)
      · rw [if_pos ((h.dmp0 hj2 hi6).2 hx)]
        exact skip (fun q => hx q.1)
theorem KS.wakes {w : Nat} {PH : St → Nat → Prop} (hP : ∀ S j, PH S j → j < nc S → (sl S 0).length ≤ 20 ∧ PH (wk1 j S) (j + 1)) (p : PH (setOut S 0 0) 0) (h : KS γ ga tr et hb S ms G) (o : Ok S) (hw : w < nk S + 1) (hl : ms.length + 60 < 10000) :
    wp (f_X2_wakes γ (ga 1) (wv w) G) (CmdQ γ ga tr et hb G ms 128 800 (wakesP S w)) := by
  have hb8 := h.bnd
  unfold f_X2_wakes wakesP
  rw [if_pos h.isK, h.whoF hw, bR_some, h.outF o hw, bI_some]
  by_cases c : outS S w = 0
  · rw [if_pos c, c]
    exact h.refuse rfl (by decide) (by decide)
  · rw [if_neg c, meet_ok c, if_pos h.isK, h.whoF hw, bR_some]
    refine h.setF hw (Or.inl rfl) (fun r h1 s1 => ?_)
    have o1 : Ok (setOut S w 0) := o.setO (Or.inl rfl)
    by_cases c0 : w = 0
    · subst c0
      have en := setOut_nk (S := S) (w := 0) (v := 0)
      rw [if_pos (show wv 0 = -1 from rfl), if_pos rfl]
      unfold f_X2_hostWakes
      refine wp_bI (wp_ifc h1.isK (wp_mono (KS.hostLoop1 hP FU 0 (setOut S 0 0) r (by show _ < 4294967296; rw [en.2]; omega) (Nat.zero_le _) h1 p (fun j hj => o1.dn hj) hl) (fun r2 hr2 => ?_)))
      obtain ⟨e, h2, s2⟩ := hr2
      rw [Nat.sub_zero] at e h2
      rw [en.2] at e h2 s2
      refine wp_some ⟨r2.2, ?_, ?_, (s1.trans h.1 s2).mono (by omega) (by omega)⟩
      · rw [e]
        unfold hostW
        rw [en.2]
      · unfold hostW
        rw [en.2]
        exact h2
    · have hne : ¬ wv w = -1 := by
        unfold wv
        rw [if_neg c0]
        intro e
        have := congrArg Int32.toInt e
        rw [i_toInt (by omega), show (-1 : Int32).toInt = -1 from by decide] at this
        omega
      have en := setOut_nk (S := S) (w := w) (v := 0)
      rw [if_neg hne, if_neg c0, show wv w = Int32.ofNat (w - 1) from if_neg c0]
      unfold f_X2_cookWakes
      have h1' : KS γ ga tr et hb (setOut S w 0) (ms ++ []) r := by rw [List.append_nil]; exact h1
      refine wp_bI (wp_ifc h1.isK (wp_mono (KS.cookLoopW (S := setOut S w 0) (i := w - 1) (by rw [en.1]; omega) FU 0 0 [] r (by show _ < 4294967296; rw [en.2]; omega) (Nat.zero_le _) h1' (by rw [List.append_nil]; omega)) (fun r2 hr2 => ?_)))
      obtain ⟨e, h2, s2⟩ := hr2
      rw [Nat.sub_zero, en.2] at e h2 s2
      exact wp_some ⟨r2.2, by rw [e], h2, (s1.trans h.1 s2).mono (by omega) (by omega)⟩
end C15
