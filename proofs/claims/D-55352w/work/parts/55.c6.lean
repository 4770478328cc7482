section C6
variable {γ : GP} {G G1 : AH} {ga : Nat → Nat} {tr : Nat → List Nat} {et : Nat → Nat → Nat} {S : St} {hb : Nat → Prop} {ms : List Ms}
theorem MsgF.k (a : Nat) (m : Ms) (h : MsgF G a m) : 28 ≤ hK G a ∧ hK G a ≤ 32 := by
  rcases h with h | h | h | h
  · rw [h.2.1]; decide
  · rw [h.2.1]; decide
  · rw [h.2.1]; decide
  · rw [h.2.1]; decide
theorem MsgF.keep {P : Nat → Prop} {a : Nat} {m : Ms} (h : MsgF G a m) (hw : Wf G) (hF : Fc P G G1) (hn : ¬ P a) : MsgF G1 a m := by
  have l : a < hS G := (hw.2 a (by have := h.k; omega)).2
  unfold MsgF
  rw [hF.kind l, hF.rI l hn, hF.rI l hn, hF.rI l hn, hF.rI l hn, hF.rI l hn, hF.rI l hn, hF.rI l hn, hF.rI l hn, hF.rI l hn, hF.rI l hn, hF.rI l hn, hF.rI l hn, hF.rI l hn, hF.rI l hn]
  exact h
theorem MsgF.vote {a : Nat} {m : Ms} (h : MsgF G a m) {b : Bool} (hk : m.1 = if b then 1 else 2) : hK G a = 32 ∧ f_X16_course γ a G = some (Int32.ofNat m.2.2.1, G) ∧ f_X16_cook γ a G = some (Int32.ofNat m.2.1, G) ∧ f_X16_isYes γ a G = some ((if b then 1 else 0), G) := by
  have hk12 : m.1 = 1 ∨ m.1 = 2 := by cases b; exact Or.inr hk; exact Or.inl hk
  rcases h with h | h | h | h
  · omega
  · obtain ⟨_, k, q1, q2, q3, q4⟩ := h
    unfold f_X16_course f_X16_cook f_X16_isYes
    rw [gI_ok (okf k (by decide)), gI_ok (okf k (by decide)), gI_ok (okf k (by decide)), q1, q2, q4, hk]
    exact ⟨k, rfl, rfl, by cases b <;> rfl⟩
  · omega
  · omega
theorem MsgF.quest {a : Nat} {m : Ms} (h : MsgF G a m) (hk : m.1 = 5) : hK G a = 31 ∧ f_X15_course γ a G = some (Int32.ofNat m.2.2.1, G) ∧ f_X15_cook γ a G = some (Int32.ofNat m.2.1, G) := by
  rcases h with h | h | h | h
  · omega
  · omega
  · omega
  · obtain ⟨_, k, q1, q2, q3⟩ := h
    unfold f_X15_course f_X15_cook
    rw [gI_ok (okf k (by decide)), gI_ok (okf k (by decide)), q1, q2]
    exact ⟨k, rfl, rfl⟩
theorem MsgF.verd {a : Nat} {m : Ms} (h : MsgF G a m) {b : Bool} (hk : m.1 = if b then 3 else 4) : hK G a = 30 ∧ f_X14_course γ a G = some (Int32.ofNat m.2.2.1, G) ∧ f_X14_cook γ a G = some (Int32.ofNat m.2.1, G) ∧ f_X14_isServing γ a G = some ((if b then 1 else 0), G) := by
  have hk12 : m.1 = 3 ∨ m.1 = 4 := by cases b; exact Or.inr hk; exact Or.inl hk
  rcases h with h | h | h | h
  · omega
  · omega
  · obtain ⟨_, k, q1, q2, q3, q4⟩ := h
    unfold f_X14_course f_X14_cook f_X14_isServing
    rw [gI_ok (okf k (by decide)), gI_ok (okf k (by decide)), gI_ok (okf k (by decide)), q1, q2, q4, hk]
    exact ⟨k, rfl, rfl, by cases b <;> rfl⟩
  · omega
theorem MsgF.inv {a : Nat} {m : Ms} (h : MsgF G a m) (hk : m.1 = 0) : hK G a = 29 ∧ f_X13_course γ a G = some (Int32.ofNat m.2.2.1, G) ∧ f_X13_cook γ a G = some (Int32.ofNat m.2.1, G) := by
  rcases h with h | h | h | h
  · obtain ⟨_, k, q1, q2, q3⟩ := h
    unfold f_X13_course f_X13_cook
    rw [gI_ok (okf k (by decide)), gI_ok (okf k (by decide)), q1, q2]
    exact ⟨k, rfl, rfl⟩
  · omega
  · omega
  · omega
theorem mask_or : ∀ s, s < 64 → ∀ d, d < 6 → Int32.ofNat s ||| ((1 : Int32) <<< (Int32.ofNat d &&& 31)) = Int32.ofNat (s ||| 1 <<< d) := by decide +kernel
theorem mask_lt : ∀ s, s < 64 → ∀ d, d < 6 → s ||| 1 <<< d < 64 := by decide +kernel
theorem popc_lt : ∀ s, s < 64 → popc s ≤ 6 := by decide +kernel
theorem mask_step : ∀ s, s < 64 → s ≠ 0 → (Int32.ofNat s &&& (Int32.ofNat s - 1)) = Int32.ofNat (s &&& (s - 1)) ∧ s &&& (s - 1) < s ∧ popc s = popc (s &&& (s - 1)) + 1 := by decide +kernel
theorem votes_L7 (s : Nat) : s < 64 → ∀ (n : Nat) (acc : Int32), popc s < n → f_X7_votes_L7 γ n acc (Int32.ofNat s) G = some (acc + Int32.ofNat (popc s), G) := by
  induction s using Nat.strongRecOn with
  | ind s ih =>
    intro hs n acc hn
    cases n with
    | zero => exact absurd hn (Nat.not_lt_zero _)
    | succ n =>
      unfold f_X7_votes_L7
      by_cases h0 : s = 0
      · subst h0
        rw [if_pos (show Int32.ofNat 0 = 0 from rfl), show popc 0 = 0 from rfl, show Int32.ofNat 0 = 0 from rfl, Int32.add_zero]
      · obtain ⟨e1, e2, e3⟩ := mask_step s hs h0
        rw [if_neg (show ¬ Int32.ofNat s = 0 from fun e => h0 ((i_eq (b := 0) (by omega) (by omega)).mp e)), e1, ih _ e2 (by omega) n _ (by omega), e3, Int32.add_assoc, show (1 : Int32) = Int32.ofNat 1 from rfl, i_add, Nat.add_comm 1]
theorem KS.votesF {j : Nat} (h : KS γ ga tr et hb S ms G) (hj : j < nc S) (hs : sv S j < 64) : f_X7_votes γ (ga (60 + j)) G = some (Int32.ofNat (popc (sv S j)), G) := by
  have k := h.ko hj
  have := popc_lt _ hs
  unfold f_X7_votes
  rw [gI_ok (okf k.1 (by decide)), k.2.2.2.2.1, votes_L7 _ hs FU 0 (by show _ < 4294967296; omega), Int32.zero_add]
theorem settles_isD {j : Nat} {v : Int32} {j2 d2 : Nat} : isD (settlesP S j v) j2 d2 ↔ isD S j2 d2 := by
  unfold isD settlesP
  show 0 < sc (usc (usc S j 0 v) j 2 (sg S 0)) j2 (4 + 4 * d2) ↔ _
  rw [sc_usc, if_neg (fun e => by omega), sc_usc, if_neg (fun e => by omega)]
theorem settles_ph {j : Nat} {v : Int32} : sc (settlesP S j v) j 0 = v := by
  show sc (usc (usc S j 0 v) j 2 (sg S 0)) j 0 = v
  rw [sc_usc, if_neg (fun e => by omega), sc_usc, if_pos ⟨rfl, rfl⟩]
theorem KS.decides {j : Nat} {v : Int32} (h : KS γ ga tr et hb S ms G) (hj : j < nc S) (hDn : ∀ d, d < 6 → isD S j d → d < nk S) (hlen : (sl S 0).length ≤ 20) (hm : ms.length + 6 < 10000) {β : Type} {Q : β → Prop} {K : AH → Option β}
    {A : AH → Option (Int32 × AH)} (hA : ∀ g, KS γ ga tr et hb (settlesP S j v) ms g → Stq hb G g 2 53 → A g = (if hK g (ga 1) = 2 then f_X2_sendsAll γ (ga 1) (Int32.ofNat j) g else none))
    (k : ∀ r, KS γ ga tr et hb (decidesP S j v).1 (ms ++ (decidesP S j v).2) r → Stq hb G r 16 100 → wp (K r) Q) :
    wp (bV (if hK G (ga 1) = 2 then f_X2_settles γ (ga 1) (Int32.ofNat j) v G else none) fun g11 => bI (A g11) fun _ g14 => K g14) Q := by
  refine wp_bV (wp_ifc h.isK (wp_mono (h.settles hj hlen) (fun r hr => ?_)))
  obtain ⟨h1, s1⟩ := hr
  rw [hA r h1 s1]
  refine wp_bI (wp_ifc h1.isK (wp_mono (h1.sendsAll (j := j) hj (fun d hd hx => hDn d hd (settles_isD.mp hx)) hm) (fun r2 hr2 => ?_)))
  obtain ⟨e, h2, s2⟩ := hr2
  refine k _ ?_ ((s1.trans h.1 s2).mono (by omega) (by omega))
  have ed : decn (settlesP S j v) j = if v = 2 then 3 else 4 := by
    unfold decn
    rw [settles_ph]
  rw [ed] at h2
  exact h2
theorem KS.phase {j : Nat} (h : KS γ ga tr et hb S ms G) (hj : j < nc S) : f_X7_phase γ (ga (60 + j)) G = some (sc S j 0, G) := by
  unfold f_X7_phase
  rw [gI_ok (okf (h.ko hj).1 (by decide)), (h.ko hj).2.1]
theorem KS.counts {a : Nat} {m : Ms} {b : Bool} (h : KS γ ga tr et hb S ms G) (hm : MsgF G a m) (hk : m.1 = if b then 1 else 2) (ha : ¬ hb a) (hj : m.2.2.1 < nc S) (hd : m.2.1 < nk S) (hs : sv S m.2.2.1 < 64) (hDn : ∀ d, d < 6 → isD S m.2.2.1 d → d < nk S) (hlen : (sl S 0).length ≤ 20) (hms : ms.length + 6 < 10000) :
    wp (f_X2_counts γ (ga 1) a G) (fun r => KS γ ga tr et hb (countsP S m.2.1 m.2.2.1 b).1 (ms ++ (countsP S m.2.1 m.2.2.1 b).2) r ∧ Stq hb G r 16 100) := by
  have hd6 := h.nk_ hd
  have v0 := hm.vote (γ := γ) hk
  unfold f_X2_counts
  rw [if_pos v0.1, v0.2.1, bI_some, if_pos h.isK, h.course hj, bR_some, if_pos (h.ko hj).1, h.phase hj, bI_some]
  unfold countsP
  have hA : ∀ g, Fc hb G g → (bI (if hK g a = 32 then f_X16_course γ a g else none) fun v13 g12 => if hK g12 (ga 1) = 2 then f_X2_sendsAll γ (ga 1) v13 g12 else none) = (if hK g (ga 1) = 2 then f_X2_sendsAll γ (ga 1) (Int32.ofNat m.2.2.1) g else none) := by
    intro g hg
    have v1 := (hm.keep h.1 hg ha).vote (γ := γ) hk
    rw [if_pos v1.1, v1.2.1, bI_some]
  have bb : ∀ (x : Option (Int32 × AH)) (f : Int32 → AH → Option (Int32 × AH)) (g : Int32 → AH → Option AH), (bI x fun v w => bI (f v w) g) = bI (bI x f) g := by
    intro x f g
    cases x with
    | none => rfl
    | some r => rfl
  by_cases c : sc S m.2.2.1 0 = 1
  · rw [if_pos c, if_pos c, if_pos v0.1, v0.2.2.2, bI_some]
    cases b with
    | false =>
      rw [if_pos (show (if false = true then (1 : Int32) else 0) = 0 from rfl), if_pos v0.1, v0.2.1, bI_some, if_pos (show false = false from rfl)]
      show wp (bV _ fun g11 => bI (if hK g11 a = 32 then f_X16_course γ a g11 else none) fun v13 g12 => bI (if hK g12 (ga 1) = 2 then f_X2_sendsAll γ (ga 1) v13 g12 else none) fun v15 g14 => some g14) _
      rw [show (fun g11 => bI (if hK g11 a = 32 then f_X16_course γ a g11 else none) fun v13 g12 => bI (if hK g12 (ga 1) = 2 then f_X2_sendsAll γ (ga 1) v13 g12 else none) fun v15 g14 => some g14) = (fun g11 => bI (bI (if hK g11 a = 32 then f_X16_course γ a g11 else none) fun v13 g12 => if hK g12 (ga 1) = 2 then f_X2_sendsAll γ (ga 1) v13 g12 else none) fun v15 g14 => some g14) from funext (fun g => bb _ _ _)]
      exact h.decides hj hDn hlen hms (fun g _ s => hA g s.1) (fun r h2 s2 => wp_some ⟨h2, s2⟩)
    | true =>
      rw [if_neg (show ¬ (if true = true then (1 : Int32) else 0) = 0 from by decide), if_pos v0.1, v0.2.2.1, bI_some, if_neg (show ¬ true = false from by decide)]
      refine wp_bV (wp_ifc (h.ko hj).1 ?_)
      unfold f_X7_countsYes
      rw [gI_ok (okf (h.ko hj).1 (by decide)), (h.ko hj).2.2.2.2.1, mask_or _ hs _ hd6]
      refine h.pVotes hj (fun h1 s1 => wp_some ?_)
      have hj1 : m.2.2.1 < nc (usv S m.2.2.1 (sv S m.2.2.1 ||| 1 <<< m.2.1)) := hj
      have es : sv (usv S m.2.2.1 (sv S m.2.2.1 ||| 1 <<< m.2.1)) m.2.2.1 = sv S m.2.2.1 ||| 1 <<< m.2.1 := by rw [sv_usv, if_pos rfl]
      have hs1 : sv (usv S m.2.2.1 (sv S m.2.2.1 ||| 1 <<< m.2.1)) m.2.2.1 < 64 := by rw [es]; exact mask_lt _ hs _ hd6
      have hv1 := (hm.keep h.1 s1.1 ha).vote (γ := γ) (b := true) hk
      rw [if_pos (h1.ko hj1).1, h1.votesF hj1 hs1, bI_some, if_pos (h1.ko hj1).1, h1.dishes hj1, bR_some, if_pos (h1.kt hj1).1.at0.1, h1.size hj1, bI_some, es]
      have hp := popc_lt _ (mask_lt _ hs _ hd6)
      have hdl := dks_le (S := S) m.2.2.1
      have ed : dks (usv S m.2.2.1 (sv S m.2.2.1 ||| 1 <<< m.2.1)) m.2.2.1 = dks S m.2.2.1 := rfl
      rw [ed]
      by_cases c2 : popc (sv S m.2.2.1 ||| 1 <<< m.2.1) = (dks S m.2.2.1).length
      · rw [if_pos ((i_eq (by omega) (by omega)).mpr c2), if_pos c2, if_pos hv1.1, hv1.2.1, bI_some]
        show wp (bV _ fun g11 => bI (if hK g11 a = 32 then f_X16_course γ a g11 else none) fun v13 g12 => bI (if hK g12 (ga 1) = 2 then f_X2_sendsAll γ (ga 1) v13 g12 else none) fun v15 g14 => some g14) _
        rw [show (fun g11 => bI (if hK g11 a = 32 then f_X16_course γ a g11 else none) fun v13 g12 => bI (if hK g12 (ga 1) = 2 then f_X2_sendsAll γ (ga 1) v13 g12 else none) fun v15 g14 => some g14) = (fun g11 => bI (bI (if hK g11 a = 32 then f_X16_course γ a g11 else none) fun v13 g12 => if hK g12 (ga 1) = 2 then f_X2_sendsAll γ (ga 1) v13 g12 else none) fun v15 g14 => some g14) from funext (fun g => bb _ _ _)]
        exact h1.decides hj1 hDn hlen hms (fun g _ s => hA g (s1.1.trans s.1 h.1 (fun _ q => Or.inl q))) (fun r h2 s2 => wp_some ⟨h2, (s1.trans h.1 s2).mono (by omega) (by omega)⟩)
      · rw [if_neg (fun e => c2 ((i_eq (by omega) (by omega)).mp e)), if_neg c2]
        exact wp_some ⟨by rw [List.append_nil]; exact h1, s1.mono (by omega) (by omega)⟩
  · rw [if_neg c, if_neg c]
    exact wp_some ⟨by rw [List.append_nil]; exact h, Stq.refl h.1 16 100⟩
end C6
