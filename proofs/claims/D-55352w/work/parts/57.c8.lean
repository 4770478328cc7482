section C8
variable {γ : GP} {G G1 : AH} {ga : Nat → Nat} {tr : Nat → List Nat} {et : Nat → Nat → Nat} {S : St} {hb : Nat → Prop} {ms : List Ms}
theorem KS.ncF (h : KS γ ga tr et hb S ms G) : (if hK G (ga 3) = 3 then f_J2_size γ (ga 3) G else if hK G (ga 3) = 5 then f_J4_size γ (ga 3) G else none) = some (Int32.ofNat (nc S), G) := by
  rw [if_pos h.k3.1, h.k3.size, len3]
theorem KS.nkF (h : KS γ ga tr et hb S ms G) : (if hK G (ga 2) = 3 then f_J2_size γ (ga 2) G else if hK G (ga 2) = 5 then f_J4_size γ (ga 2) G else none) = some (Int32.ofNat (nk S), G) := by
  rw [if_pos h.k2.1, h.k2.size, len2]
theorem fo_id {α : Type} {f : Nat → α → α} {m k : Nat} {a : α} (h : ∀ j, f j a = a) : fo f m k a = a := by
  induction m generalizing k with
  | zero => rfl
  | succ m ih => rw [fo_in, h, ih]
theorem patP_nc {j : Nat} {q : St × List Ms} : nc (patP j q).1 = nc q.1 ∧ nk (patP j q).1 = nk q.1 := by
  unfold patP
  split
  · exact ⟨rfl, rfl⟩
  · exact ⟨rfl, rfl⟩
theorem i_one (n : Nat) : Int32.ofNat n + 1 = Int32.ofNat (n + 1) := i_add n 1
theorem KS.patLoop {PH : St → List Ms → Nat → Prop} (hP : ∀ S ms j, PH S ms j → j < nc S → Ok S ∧ ms.length + 6 < 10000 ∧ PH (patP j (S, ms)).1 (patP j (S, ms)).2 (j + 1)) (n : Nat) :
    ∀ (j : Nat) (S : St) (ms : List Ms) (G : AH), nc S - j < n → j ≤ nc S → KS γ ga tr et hb S ms G → PH S ms j → (sg S 3 = 0 ∨ sg S 3 = 1) →
    wp (f_X2_losesPatience_L2 γ (ga 1) n (Int32.ofNat j) G) (fun r => KS γ ga tr et hb (fo patP (nc S - j) j (S, ms)).1 (fo patP (nc S - j) j (S, ms)).2 r ∧ Stq hb G r (16 * (nc S - j)) (100 * (nc S - j))) := by
  induction n with
  | zero => intro j S ms G hk; exact absurd hk (Nat.not_lt_zero _)
  | succ n ih =>
    intro j S ms G hn hj h p h3
    have hb8 := h.bnd
    unfold f_X2_losesPatience_L2
    rw [gR_ok (okf h.isK (by decide)), h.k1.2.2.1, h.ncF, bI_some]
    by_cases c : nc S ≤ j
    · rw [if_pos ((i_le (by omega) (by omega)).mpr c), show nc S - j = 0 from by omega]
      exact wp_some ⟨h, Stq.refl h.1 _ _⟩
    · rw [if_neg (fun e => c ((i_le (by omega) (by omega)).mp e)), gR_ok (okf h.isK (by decide)), h.k1.2.2.2.1, if_pos h.k4.1]
      have hj2 : j < nc S := by omega
      obtain ⟨o, hl, p2⟩ := hP S ms j p hj2
      unfold f_X3_hasFainted
      rw [gI_ok (okf h.k4.1 (by decide)), h.k4.2.1, rtB h3, bI_some]
      have em : nc S - j = (nc S - (j + 1)) + 1 := by omega
      by_cases c3 : sg S 3 = 0
      · rw [if_pos c3, if_pos h.isK, h.course hj2, bR_some, if_pos (h.ko hj2).1, h.phase hj2, bI_some]
        have skip : patP j (S, ms) = (S, ms) → wp (f_X2_losesPatience_L2 γ (ga 1) n (Int32.ofNat j + 1) G) (fun r => KS γ ga tr et hb (fo patP (nc S - j) j (S, ms)).1 (fo patP (nc S - j) j (S, ms)).2 r ∧ Stq hb G r (16 * (nc S - j)) (100 * (nc S - j))) := by
          intro e
          rw [e] at p2
          rw [i_one, em, fo_in, e]
          refine wp_mono (ih (j + 1) S ms G (by omega) (by omega) h p2 h3) (fun r hr => ⟨hr.1, hr.2.mono (by omega) (by omega)⟩)
        by_cases c1 : sc S j 0 = 1
        · rw [if_pos c1, gI_ok (okf h.isK (by decide)), h.k1.2.2.2.2.2.1, if_pos (h.ko hj2).1]
          unfold f_X7_asked
          rw [gI_ok (okf (h.ko hj2).1 (by decide)), (h.ko hj2).2.2.1, bI_some]
          by_cases c12 : sg S 0 - sc S j 1 < 12
          · rw [if_pos c12]
            exact skip (if_neg (fun q => q.2.2 c12))
          · rw [if_neg c12]
            have e : patP j (S, ms) = ((decidesP S j 3).1, ms ++ (decidesP S j 3).2) := if_pos ⟨c3, c1, c12⟩
            rw [em, fo_in, e]
            rw [e] at p2
            refine h.decides (v := 3) hj2 (o.dn hj2) (o.1 0 (by decide)) hl (fun g _ _ => rfl) (fun r h1 s1 => ?_)
            rw [i_one]
            refine wp_mono (ih (j + 1) _ _ r (by show nc S - (j + 1) < n; omega) (by show j + 1 ≤ nc S; omega) h1 p2 h3) (fun r2 hr2 => ⟨hr2.1, (s1.trans h.1 hr2.2).mono (by show 16 + 16 * (nc S - (j + 1)) ≤ _; omega) (by show 100 + 100 * (nc S - (j + 1)) ≤ _; omega)⟩)
        · rw [if_neg c1]
          exact skip (if_neg (fun q => c1 q.2.1))
      · rw [if_neg c3]
        have e : fo patP (nc S - j) j (S, ms) = (S, ms) := fo_id (fun j2 => if_neg (fun q => c3 q.1))
        rw [e]
        exact wp_some ⟨h, Stq.refl h.1 _ _⟩
theorem KS.since {j d : Nat} (h : KS γ ga tr et hb S ms G) (hj : j < nc S) (hd : d < 6) (hx : isD S j d) : f_X8_since γ (ga (80 + 6 * j + d)) G = some (sc S j (4 + 4 * d + 3), G) := by
  have k := h.kd hj hd hx
  unfold f_X8_since
  rw [gI_ok (okf k.1 (by decide)), k.2.2.2.2.1]
theorem KS.longIn {j i : Nat} (h : KS γ ga tr et hb S ms G) (hj : j < nc S) (hi : i < nk S) (hf : sk S i 1 = 0) : f_X2_isLongInDoubt γ (ga 1) (dmp S ga j i) G = some ((if dbt S i j = true then 1 else 0), G) := by
  have hi6 := h.nk_ hi
  unfold f_X2_isLongInDoubt dbt
  rw [show decide (sk S i 1 = 0) = true from decide_eq_true hf, Bool.true_and]
  by_cases hx : isD S j i
  · have e := (h.dmp0 hj hi6).1 hx
    have k := (h.kd hj hi6 hx).1
    rw [if_neg e.2, e.1, if_pos k, h.isReady hj hi6 hx, bI_some, show decide (isD S j i) = true from decide_eq_true hx, Bool.true_and]
    by_cases c : hw S j i = 1
    · rw [if_pos c, if_neg (by decide), gI_ok (okf h.isK (by decide)), h.k1.2.2.2.2.2.1, if_pos k, h.since hj hi6 hx, bI_some, show decide (hw S j i = 1) = true from decide_eq_true c, Bool.true_and]
      by_cases c2 : sg S 0 ≤ sc S j (4 + 4 * i + 3)
      · rw [if_pos c2, show decide (¬ sg S 0 ≤ sc S j (4 + 4 * i + 3)) = false from decide_eq_false (fun q => q c2), Bool.false_and]
        rfl
      · rw [if_neg c2, gI_ok (okf h.isK (by decide)), h.k1.2.2.2.2.2.1, if_pos k, h.since hj hi6 hx, bI_some, show decide (¬ sg S 0 ≤ sc S j (4 + 4 * i + 3)) = true from decide_eq_true c2, Bool.true_and, if_pos (show ¬ (8 : Int32) = 0 from by decide)]
        by_cases c4 : (sg S 0 - sc S j (4 + 4 * i + 3)) - (sg S 0 - sc S j (4 + 4 * i + 3)) / 8 * 8 = 0
        · rw [if_pos c4, if_pos (decide_eq_true c4)]; rfl
        · rw [if_neg c4, if_neg (fun q => c4 (of_decide_eq_true q))]; rfl
    · rw [if_neg c, if_pos rfl, show decide (hw S j i = 1) = false from decide_eq_false c, Bool.false_and]
      rfl
  · rw [if_pos ((h.dmp0 hj hi6).2 hx), show decide (isD S j i) = false from decide_eq_false hx, Bool.false_and]
    rfl
theorem KS.askLoop {i : Nat} {K : AH → Option AH} {Q : AH → Prop} (hi : i < nk S) (hf01 : sk S i 1 = 0 ∨ sk S i 1 = 1) (n : Nat) : ∀ (j : Nat) (ms : List Ms) (G : AH), nc S - j < n → j ≤ nc S → KS γ ga tr et hb S ms G → ms.length + 8 < 10000 + j →
    (∀ r, KS γ ga tr et hb S (fo (askT S i) (nc S - j) j ms) r → Stq hb G r (2 * (nc S - j)) (6 * (nc S - j)) → wp (K r) Q) →
    wp (f_X2_allAsk_L17 γ (ga 1) (Int32.ofNat i) K n (Int32.ofNat j) G) Q := by
  induction n with
  | zero => intro j ms G hk; exact absurd hk (Nat.not_lt_zero _)
  | succ n ih =>
    intro j ms G hn hj h hl kk
    have hb8 := h.bnd
    unfold f_X2_allAsk_L17
    rw [gR_ok (okf h.isK (by decide)), h.k1.2.2.1, h.ncF, bI_some]
    by_cases c : nc S ≤ j
    · rw [if_pos ((i_le (by omega) (by omega)).mpr c)]
      refine kk G ?_ (Stq.refl h.1 _ _)
      rw [show nc S - j = 0 from by omega]; exact h
    · rw [if_neg (fun e => c ((i_le (by omega) (by omega)).mp e)), if_pos h.isK, h.cook hi, bR_some, if_pos (h.kc hi).1]
      have hj2 : j < nc S := by omega
      have em : nc S - j = (nc S - (j + 1)) + 1 := by omega
      unfold f_X3_hasFainted
      rw [gI_ok (okf (h.kc hi).1 (by decide)), (h.kc hi).2.2.1, rtB hf01, bI_some]
      by_cases c3 : sk S i 1 = 0
      · rw [if_pos c3, if_pos h.isK, h.course hj2, bR_some, if_pos (h.ko hj2).1, h.of hj2 (h.nk_ hi), bR_some, if_pos h.isK, h.longIn hj2 hi c3, bI_some]
        by_cases c4 : dbt S i j = true
        · rw [if_pos c4, if_neg (by decide)]
          refine wp_bV (wp_ifc h.isK (wp_mono (h.asksHost hj2 hi (by omega)) (fun r hr => ?_)))
          rw [i_one]
          refine ih (j + 1) _ r (by omega) (by omega) hr.1 (by rw [List.length_append]; show ms.length + 1 + 8 < _; omega) (fun r2 h2 s2 => kk r2 ?_ ?_)
          · rw [em, fo_in, show askT S i j ms = ms ++ [mg S 5 i j] from if_pos c4]; exact h2
          · exact (hr.2.trans h.1 s2).mono (by omega) (by omega)
        · rw [if_neg c4, if_pos rfl, i_one]
          refine ih (j + 1) ms G (by omega) (by omega) h (by omega) (fun r2 h2 s2 => kk r2 ?_ (s2.mono (by omega) (by omega)))
          rw [em, fo_in, show askT S i j ms = ms from if_neg c4]; exact h2
      · rw [if_neg c3]
        refine kk G ?_ (Stq.refl h.1 _ _)
        have e : fo (askT S i) (nc S - j) j ms = ms := fo_id (fun j2 => by
          have hn : ¬ dbt S i j2 = true := fun q => c3 (by unfold dbt at q; exact of_decide_eq_true (Bool.and_eq_true_iff.mp q).1)
          exact if_neg hn)
        rw [e]
        exact h
theorem askT_len {i j : Nat} : (askT S i j ms).length ≤ ms.length + 1 := by
  unfold askT
  split
  · rw [List.length_append]; exact Nat.le_refl _
  · omega
theorem fo_len {f : Nat → List Ms → List Ms} {c : Nat} (hf : ∀ j ms, (f j ms).length ≤ ms.length + c) (m : Nat) : ∀ (k : Nat) (ms : List Ms), (fo f m k ms).length ≤ ms.length + c * m := by
  induction m with
  | zero => intro k ms; exact Nat.le_refl _
  | succ m ih =>
    intro k ms
    rw [fo_in]
    have := ih (k + 1) (f k ms)
    have := hf k ms
    rw [Nat.mul_succ]
    omega
theorem asksC_len {i : Nat} : (asksC S i ms).length ≤ ms.length + nc S := by
  have := fo_len (c := 1) (f := askT S i) (fun j ms => askT_len) (nc S) 0 ms
  rw [Nat.one_mul] at this
  exact this
theorem KS.askLoop2 (ho : ∀ i, i < nk S → sk S i 1 = 0 ∨ sk S i 1 = 1) (n : Nat) : ∀ (i : Nat) (ms : List Ms) (G : AH), nk S - i < n → i ≤ nk S → KS γ ga tr et hb S ms G → ms.length + 8 * (7 - i) < 9900 →
    wp (f_X2_allAsk_L2 γ (ga 1) n (Int32.ofNat i) G) (fun r => KS γ ga tr et hb S (fo (asksC S) (nk S - i) i ms) r ∧ Stq hb G r (16 * (nk S - i)) (48 * (nk S - i))) := by
  induction n with
  | zero => intro j ms G hk; exact absurd hk (Nat.not_lt_zero _)
  | succ n ih =>
    intro i ms G hn hi h hl
    have hb8 := h.bnd
    unfold f_X2_allAsk_L2
    rw [gR_ok (okf h.isK (by decide)), h.k1.2.1, h.nkF, bI_some]
    by_cases c : nk S ≤ i
    · rw [if_pos ((i_le (by omega) (by omega)).mpr c), show nk S - i = 0 from by omega]
      exact wp_some ⟨h, Stq.refl h.1 _ _⟩
    · rw [if_neg (fun e => c ((i_le (by omega) (by omega)).mp e))]
      have hi2 : i < nk S := by omega
      refine KS.askLoop hi2 (ho i hi2) FU 0 ms G (by show _ < 4294967296; omega) (Nat.zero_le _) h (by omega) (fun r h1 s1 => ?_)
      rw [i_one]
      have hlen : (asksC S i ms).length ≤ ms.length + nc S := asksC_len
      refine wp_mono (ih (i + 1) (asksC S i ms) r (by omega) (by omega) h1 (by omega)) (fun r2 hr2 => ⟨?_, (s1.trans h.1 hr2.2).mono (by omega) (by omega)⟩)
      rw [show nk S - i = (nk S - (i + 1)) + 1 from by omega, fo_in]
      exact hr2.1
theorem KS.allAsk (h : KS γ ga tr et hb S ms G) (o : Ok S) (hl : ms.length < 9800) : wp (f_X2_allAsk γ (ga 1) G) (fun r => KS γ ga tr et hb S (allAskP S ms) r ∧ Stq hb G r 96 288) := by
  have hb8 := h.bnd
  unfold f_X2_allAsk
  refine wp_mono (KS.askLoop2 o.2.2.2.1 FU 0 ms G (by show _ < 4294967296; omega) (Nat.zero_le _) h (by omega)) (fun r hr => ⟨hr.1, hr.2.mono (by omega) (by omega)⟩)
theorem KS.patience {PH : St → List Ms → Nat → Prop} (hP : ∀ S ms j, PH S ms j → j < nc S → Ok S ∧ ms.length + 6 < 10000 ∧ PH (patP j (S, ms)).1 (patP j (S, ms)).2 (j + 1)) (h : KS γ ga tr et hb S ms G) (p : PH S ms 0) (h3 : sg S 3 = 0 ∨ sg S 3 = 1) :
    wp (f_X2_losesPatience γ (ga 1) G) (fun r => KS γ ga tr et hb (fo patP (nc S) 0 (S, ms)).1 (fo patP (nc S) 0 (S, ms)).2 r ∧ Stq hb G r 128 800) := by
  have hb8 := h.bnd
  unfold f_X2_losesPatience
  refine wp_mono (KS.patLoop hP FU 0 S ms G (by show _ < 4294967296; omega) (Nat.zero_le _) h p h3) (fun r hr => ⟨hr.1, hr.2.mono (by omega) (by omega)⟩)
end C8
