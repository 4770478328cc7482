/-- what the steps ask of a kitchen -/
def Ok (S : St) : Prop := (∀ w, w < 7 → (sl S w).length ≤ 20) ∧ (∀ j, j < nc S → sv S j < 64) ∧ (∀ j, j < nc S → ∀ d, d < 6 → isD S j d → d < nk S ∧ ign S j d < 4 ∧ ig S j d = Int32.ofNat (ign S j d)) ∧ (∀ i, i < nk S → sk S i 1 = 0 ∨ sk S i 1 = 1) ∧ (sg S 3 = 0 ∨ sg S 3 = 1)
def Vm (S : St) (m : Ms) : Prop := m.1 ≤ 5 ∧ m.2.1 < nk S ∧ m.2.2.1 < nc S ∧ isD S m.2.2.1 m.2.1
section C7
variable {γ : GP} {G G1 : AH} {ga : Nat → Nat} {tr : Nat → List Nat} {et : Nat → Nat → Nat} {S : St} {hb : Nat → Prop} {ms : List Ms}
theorem Ok.dn (o : Ok S) {j : Nat} (hj : j < nc S) : ∀ d, d < 6 → isD S j d → d < nk S := fun d hd hx => (o.2.2.1 j hj d hd hx).1
theorem KS.answers {a : Nat} {m : Ms} (h : KS γ ga tr et hb S ms G) (hm : MsgF G a m) (hk : m.1 = 5) (hj : m.2.2.1 < nc S) (hd : m.2.1 < nk S) (hms : ms.length + 6 < 10000) :
    wp (f_X2_answers γ (ga 1) a G) (fun r => KS γ ga tr et hb (answersP S m.2.1 m.2.2.1).1 (ms ++ (answersP S m.2.1 m.2.2.1).2) r ∧ Stq hb G r 2 7) := by
  have v0 := hm.quest (γ := γ) hk
  obtain ⟨n1, n2, n3, n4⟩ := newObj (c := 30) (n := cInst 30) h.1
  have hbb := h.2.1.lt
  have fcn := n1.toC h.1 (fun _ _ q => q.elim)
  have hN := h.keepAll n2 fcn (fun _ q => q.elim)
  have v1 := (hm.keep h.1 fcn (fun q => q)).quest (γ := γ) hk
  have e5 : decn S m.2.2.1 = 3 ∨ decn S m.2.2.1 = 4 := by
    unfold decn
    split
    · exact Or.inl rfl
    · exact Or.inr rfl
  have fin : ∀ (v : Int32), (v = 0 ∨ v = 1) → v = (if decn S m.2.2.1 = 3 then 1 else 0) → wp (bV (f_X14_init γ (hS G) (Int32.ofNat m.2.1) (Int32.ofNat m.2.2.1) (sg S 0 + sk S m.2.1 0) v (nO G 30 (cInst 30))) fun g31 => bI (if hK g31 (ga 6) = 5 then f_J4_add γ (ga 6) (hS G) g31 else none) fun v33 g32 => some g32) (fun r => KS γ ga tr et hb S (ms ++ [mg S (decn S m.2.2.1) m.2.1 m.2.2.1]) r ∧ Stq hb G r 2 7) := by
    intro v hv ev
    refine h.post (m := mg S (decn S m.2.2.1) m.2.1 m.2.2.1) (K := fun g32 => some g32) (Kx := fun g => f_X14_init γ (hS G) (Int32.ofNat m.2.1) (Int32.ofNat m.2.2.1) (sg S 0 + sk S m.2.1 0) v g) (n := 0) (by decide) (by omega) (wp_mono (X14_init n3 hbb n2 hv) (fun r hr => ⟨(⟨hr.1, hr.2.1, hr.2.2.1, hr.2.2.2.1⟩ : hI r 116 (hS G) = Int32.ofNat m.2.1 ∧ hI r 117 (hS G) = Int32.ofNat m.2.2.1 ∧ hI r 118 (hS G) = sg S 0 + sk S m.2.1 0 ∧ hI r 119 (hS G) = v), hr.2.2.2.2⟩)) (fun r p k2 => Or.inr (Or.inr (Or.inl ⟨e5, k2, p.1, p.2.1, p.2.2.1, ?_⟩))) (fun r h2 s2 => wp_some ⟨h2, s2⟩)
    rw [p.2.2.2]; exact ev
  unfold f_X2_answers
  rw [if_pos v0.1, v0.2.1, bI_some, if_pos h.isK, h.course hj, bR_some, if_pos (h.ko hj).1]
  unfold f_X7_isDecided
  rw [gI_ok (okf (h.ko hj).1 (by decide)), (h.ko hj).2.1]
  unfold answersP
  by_cases c : sc S m.2.2.1 0 < 2
  · rw [if_pos c, if_pos c, show rtN .boolean (0 : Int32) G = some (0, G) from rfl, bI_some, if_pos rfl]
    exact wp_some ⟨by rw [List.append_nil]; exact h, Stq.refl h.1 2 7⟩
  · rw [if_neg c, if_neg c, show rtN .boolean (1 : Int32) G = some (1, G) from rfl, bI_some, if_neg (by decide), gR_ok (okf h.isK (by decide)), h.k1.2.2.2.2.1]
    refine wp_mO ?_
    rw [if_pos v1.1, v1.2.2, bI_some, if_pos v1.1, v1.2.1, bI_some, if_pos v1.1, v1.2.2, bI_some, if_pos hN.isK, hN.arrival hd, bI_some, if_pos (hN.ko hj).1, hN.phase hj, bI_some]
    unfold jn
    dsimp only
    refine wp_ite (fun e => ?_) (fun e => ?_)
    · rw [if_pos n4]
      exact fin 1 (Or.inr rfl) (by unfold decn; rw [if_pos e]; rfl)
    · rw [if_pos n4]
      exact fin 0 (Or.inl rfl) (by unfold decn; rw [if_neg e]; rfl)
theorem rtB {v : Int32} (hv : v = 0 ∨ v = 1) : rtN .boolean v G = some (v, G) := by
  rcases hv with e | e <;> subst e <;> rfl
theorem inst1 {β : Type} {L1 L0 : List Nat} {a c : Nat} {K : Int32 → Option β} (hw : Wf G) (h : hK G a = c) (hc : c ≠ 0) (h1 : c ∈ L1) : gInst G L1 L0 a K = K 1 := by
  unfold gInst
  rw [if_pos ⟨fun e => by have := hw.2 a (by omega); omega, okc h h1⟩]
theorem inst0 {β : Type} {L1 L0 : List Nat} {a c : Nat} {K : Int32 → Option β} (h : hK G a = c) (h1 : c ∉ L1) (h0 : c ∈ L0) : gInst G L1 L0 a K = K 0 := by
  unfold gInst
  rw [if_neg (fun q => h1 (by have := q.2; unfold okC at this; rw [h] at this; exact this)), if_pos (Or.inr (okc h h0))]
theorem KS.faintF {w : Nat} {c : Nat} {v : Int32} (hk : hK G w = c) (hc : c = 16 ∨ c = 4) (hv : hI G 17 w = v) (h01 : v = 0 ∨ v = 1) : (if hK G w = 16 then f_X3_hasFainted γ w G else if hK G w = 4 then f_X3_hasFainted γ w G else none) = some (v, G) := by
  have e : f_X3_hasFainted γ w G = some (v, G) := by
    unfold f_X3_hasFainted
    rw [gI_ok (okf hk (by rcases hc with e | e <;> rw [e] <;> decide)), hv, rtB h01]
  rcases hc with q | q
  · rw [if_pos (by omega), e]
  · rw [if_neg (by omega), if_pos (by omega), e]
theorem KS.arrives {a : Nat} {m : Ms} (h : KS γ ga tr et hb S ms G) (hm : MsgF G a m) (ha : ¬ hb a) (o : Ok S) (hV : Vm S m) (hms : ms.length + 6 < 10000) :
    wp (f_X2_arrives γ (ga 1) a G) (fun r => KS γ ga tr et hb (arrivesP S m).1 (ms ++ (arrivesP S m).2) r ∧ Stq hb G r 16 100) := by
  obtain ⟨v1, v2, v3, v4⟩ := hV
  obtain ⟨o1, o2, o3, o4, o5⟩ := o
  have hd6 := h.nk_ v2
  have hD := o3 _ v3 _ hd6 v4
  have hwf := h.1
  have lost : wp (gI G (ga 1) 13 fun v28 => pI γ G (ga 1) 13 (v28 + 1) fun g29 => some g29) (fun r => KS γ ga tr et hb (usg S 4 (sg S 4 + 1)) (ms ++ []) r ∧ Stq hb G r 16 100) := by
    rw [gI_ok (okf h.isK (by decide)), h.k1.2.2.2.2.2.2.1]
    exact h.pLost (fun h1 s1 => wp_some ⟨by rw [List.append_nil]; exact h1, s1.mono (by omega) (by omega)⟩)
  have whoC : ∀ {K : Int32 → AH → Option AH}, (bR (if hK G (ga 1) = 2 then f_X2_who γ (ga 1) (Int32.ofNat m.2.1) G else none) fun v8 g7 => bI (if hK g7 v8 = 16 then f_X3_hasFainted γ v8 g7 else if hK g7 v8 = 4 then f_X3_hasFainted γ v8 g7 else none) K) = K (sk S m.2.1 1) G := by
    intro K
    rw [if_pos h.isK, h.who0 v2, bR_some, KS.faintF (h.kc v2).1 (Or.inl rfl) (h.kc v2).2.2.1 (o4 _ v2), bI_some]
  have whoH : ∀ {K : Int32 → AH → Option AH}, (bR (if hK G (ga 1) = 2 then f_X2_who γ (ga 1) (-1) G else none) fun v8 g7 => bI (if hK g7 v8 = 16 then f_X3_hasFainted γ v8 g7 else if hK g7 v8 = 4 then f_X3_hasFainted γ v8 g7 else none) K) = K (sg S 3) G := by
    intro K
    rw [if_pos h.isK, h.whoH, bR_some, KS.faintF h.k4.1 (Or.inr rfl) h.k4.2.1 o5, bI_some]
  have hkd : m.1 = 0 ∨ m.1 = 1 ∨ m.1 = 2 ∨ m.1 = 3 ∨ m.1 = 4 ∨ m.1 = 5 := by omega
  unfold f_X2_arrives f_X1_goesToHost
  unfold jn
  dsimp only
  rcases hkd with k | k | k | k | k | k
  · have v := hm.inv (γ := γ) k
    have eA : arrivesP S m = if sk S m.2.1 1 = 0 then invitedP S m.2.1 m.2.2.1 else (usg S 4 (sg S 4 + 1), []) := by
      unfold arrivesP
      rw [k]
      rfl
    rw [eA, inst0 v.1 (by decide) (by decide), if_pos rfl, inst0 v.1 (by decide) (by decide), if_pos rfl, show rtN .boolean (0 : Int32) G = some (0, G) from rfl, bI_some, if_pos rfl, if_pos v.1, v.2.2, bI_some, whoC]
    by_cases c : sk S m.2.1 1 = 0
    · rw [if_pos c, if_pos c, inst0 v.1 (by decide) (by decide), if_pos rfl, inst0 v.1 (by decide) (by decide), if_pos rfl, inst0 v.1 (by decide) (by decide), if_pos rfl, if_pos v.1, v.2.2, bI_some, if_pos v.1, v.2.1, bI_some]
      exact wp_bV (wp_ifc h.isK (wp_mono (h.invited v3 v2 v4 hD.2 (o1 _ (by omega)) (by omega)) (fun r hr => wp_some ⟨hr.1, hr.2.mono (by omega) (by omega)⟩)))
    · rw [if_neg c, if_neg c]; exact lost
  · have v := hm.vote (γ := γ) (b := true) k
    have eA : arrivesP S m = if sg S 3 = 0 then countsP S m.2.1 m.2.2.1 true else (usg S 4 (sg S 4 + 1), []) := by
      unfold arrivesP
      rw [k]
      rfl
    rw [eA, inst1 hwf v.1 (by decide) (by decide), if_neg (by decide), show rtN .boolean (1 : Int32) G = some (1, G) from rfl, bI_some, if_neg (by decide), whoH]
    by_cases c : sg S 3 = 0
    · rw [if_pos c, if_pos c, inst1 hwf v.1 (by decide) (by decide), if_neg (by decide), gC_ok (Or.inr (okc v.1 (by decide)))]
      exact wp_bV (wp_ifc h.isK (wp_mono (h.counts (b := true) hm k ha v3 v2 (o2 _ v3) (fun d q w => (o3 _ v3 d q w).1) (o1 0 (by decide)) hms) (fun r hr => wp_some hr)))
    · rw [if_neg c, if_neg c]; exact lost
  · have v := hm.vote (γ := γ) (b := false) k
    have eA : arrivesP S m = if sg S 3 = 0 then countsP S m.2.1 m.2.2.1 false else (usg S 4 (sg S 4 + 1), []) := by
      unfold arrivesP
      rw [k]
      rfl
    rw [eA, inst1 hwf v.1 (by decide) (by decide), if_neg (by decide), show rtN .boolean (1 : Int32) G = some (1, G) from rfl, bI_some, if_neg (by decide), whoH]
    by_cases c : sg S 3 = 0
    · rw [if_pos c, if_pos c, inst1 hwf v.1 (by decide) (by decide), if_neg (by decide), gC_ok (Or.inr (okc v.1 (by decide)))]
      exact wp_bV (wp_ifc h.isK (wp_mono (h.counts (b := false) hm k ha v3 v2 (o2 _ v3) (fun d q w => (o3 _ v3 d q w).1) (o1 0 (by decide)) hms) (fun r hr => wp_some hr)))
    · rw [if_neg c, if_neg c]; exact lost
  · have v := hm.verd (γ := γ) (b := true) k
    have eA : arrivesP S m = if sk S m.2.1 1 = 0 then (hearsP S m.2.1 m.2.2.1 true, []) else (usg S 4 (sg S 4 + 1), []) := by
      unfold arrivesP
      rw [k]
      rfl
    rw [eA, inst0 v.1 (by decide) (by decide), if_pos rfl, inst0 v.1 (by decide) (by decide), if_pos rfl, show rtN .boolean (0 : Int32) G = some (0, G) from rfl, bI_some, if_pos rfl, if_neg (by rw [v.1]; decide), if_neg (by rw [v.1]; decide), if_pos v.1, v.2.2.1, bI_some, whoC]
    by_cases c : sk S m.2.1 1 = 0
    · rw [if_pos c, if_pos c, inst0 v.1 (by decide) (by decide), if_pos rfl, inst0 v.1 (by decide) (by decide), if_pos rfl, inst1 hwf v.1 (by decide) (by decide), if_neg (by decide), gC_ok (Or.inr (okc v.1 (by decide))), if_pos v.1, v.2.2.1, bI_some, if_pos v.1, v.2.1, bI_some, if_pos v.1, v.2.2.2, bI_some]
      refine wp_bV (wp_ifc h.isK (wp_mono (h.hears (b := true) v3 v2 v4 hD.2 (o1 _ (by omega)) rfl) (fun r hr => wp_some ⟨?_, hr.2.mono (by omega) (by omega)⟩)))
      rw [List.append_nil]; exact hr.1
    · rw [if_neg c, if_neg c]; exact lost
  · have v := hm.verd (γ := γ) (b := false) k
    have eA : arrivesP S m = if sk S m.2.1 1 = 0 then (hearsP S m.2.1 m.2.2.1 false, []) else (usg S 4 (sg S 4 + 1), []) := by
      unfold arrivesP
      rw [k]
      rfl
    rw [eA, inst0 v.1 (by decide) (by decide), if_pos rfl, inst0 v.1 (by decide) (by decide), if_pos rfl, show rtN .boolean (0 : Int32) G = some (0, G) from rfl, bI_some, if_pos rfl, if_neg (by rw [v.1]; decide), if_neg (by rw [v.1]; decide), if_pos v.1, v.2.2.1, bI_some, whoC]
    by_cases c : sk S m.2.1 1 = 0
    · rw [if_pos c, if_pos c, inst0 v.1 (by decide) (by decide), if_pos rfl, inst0 v.1 (by decide) (by decide), if_pos rfl, inst1 hwf v.1 (by decide) (by decide), if_neg (by decide), gC_ok (Or.inr (okc v.1 (by decide))), if_pos v.1, v.2.2.1, bI_some, if_pos v.1, v.2.1, bI_some, if_pos v.1, v.2.2.2, bI_some]
      refine wp_bV (wp_ifc h.isK (wp_mono (h.hears (b := false) v3 v2 v4 hD.2 (o1 _ (by omega)) rfl) (fun r hr => wp_some ⟨?_, hr.2.mono (by omega) (by omega)⟩)))
      rw [List.append_nil]; exact hr.1
    · rw [if_neg c, if_neg c]; exact lost
  · have v := hm.quest (γ := γ) k
    have eA : arrivesP S m = if sg S 3 = 0 then answersP S m.2.1 m.2.2.1 else (usg S 4 (sg S 4 + 1), []) := by
      unfold arrivesP
      rw [k]
      rfl
    rw [eA, inst0 v.1 (by decide) (by decide), if_pos rfl, inst1 hwf v.1 (by decide) (by decide), if_neg (by decide), show rtN .boolean (1 : Int32) G = some (1, G) from rfl, bI_some, if_neg (by decide), whoH]
    by_cases c : sg S 3 = 0
    · rw [if_pos c, if_pos c, inst0 v.1 (by decide) (by decide), if_pos rfl, inst1 hwf v.1 (by decide) (by decide), if_neg (by decide), gC_ok (Or.inr (okc v.1 (by decide)))]
      exact wp_bV (wp_ifc h.isK (wp_mono (h.answers hm k v3 v2 hms) (fun r hr => wp_some ⟨hr.1, hr.2.mono (by omega) (by omega)⟩)))
    · rw [if_neg c, if_neg c]; exact lost
end C7
