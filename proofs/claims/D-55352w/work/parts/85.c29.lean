/-! readers of courses and of the kitchen -/
def cnt (S : St) (j : Nat) (v : Int32) : Nat := ((dks S j).filter (fun d => decide (hw S j d = v))).length
def offN (S : St) (j : Nat) : Nat := cnt S j 2 + cnt S j 4
def safe1 (S : St) (j : Nat) : Bool := decide (cnt S j 3 = 0 ∨ offN S j = 0)
def safeF (S : St) : Nat → Nat → Bool
  | 0, _ => true
  | m + 1, j => safe1 S j && safeF S m (j + 1)
def readyT (S : St) (j : Nat) (s : Int32) : Int32 := s + Int32.ofNat (cnt S j 1)
def dishesT (S : St) (j : Nat) (s : Int32) : Int32 := s + Int32.ofNat (dks S j).length
def srvT (S : St) (i y : Nat) (s : Int32) : Int32 := s + sk S i (11 + y)
def srvP (S : St) (i : Nat) : Int32 := fo (srvT S i) 4 0 0
def servT (S : St) (i : Nat) (s : Int32) : Int32 := s + srvP S i
def dofB (S : St) (i : Nat) (v b : Int32) (j : Nat) : Bool := decide (isD S j i) && (if b = 0 then decide (hw S j i = v) else decide (hw S j i = 2 ∨ hw S j i = 4))
def dofT (S : St) (i : Nat) (v b : Int32) (j : Nat) (s : Int32) : Int32 := if dofB S i v b j = true then s + 1 else s
section C29
variable {γ : GP} {G G1 : AH} {ga : Nat → Nat} {tr : Nat → List Nat} {et : Nat → Nat → Nat} {S : St} {hb : Nat → Prop} {ms : List Ms}
theorem cnt_le {j : Nat} {v : Int32} : cnt S j v ≤ 6 := Nat.le_trans (List.length_filter_le _ _) (dks_le j)
theorem KS.valLoopN {β : Type} {Q : β → Prop} {K : Nat → AH → Option β} {j : Nat} (h : KS γ ga tr et hb S ms G) (hj : j < nc S)
    (k : ∀ it G2, KS γ ga tr et (fun a => hb a ∧ a ≠ it) S ms G2 → TIt γ G2 it (ga (70 + j)) (et j) (tr j) 0 18 → Stq (fun _ => False) G G2 2 5 → hb it → hS G ≤ it → wp (K it G2) Q) :
    wp (bR (if hK G (ga (70 + j)) = 15 then f_J28_values γ (ga (70 + j)) G else none) fun v6 g5 => bR (if hK g5 v6 = 26 then f_J42_iterator γ v6 g5 else none) K) Q := by
  obtain ⟨t1, t2, t3⟩ := h.kt hj
  have hlt := h.2.1.lt
  refine wp_bR (wp_ifc t1.at0.1 (wp_mono (t1.values t2 hlt h.2.1.b9) (fun r hr => ?_)))
  obtain ⟨r1, r2, r3, r4, r5, r6, r7⟩ := hr
  have hle := r4.le
  have h1 := h.keepAll r5 r4 (fun _ q => q.elim)
  refine TM.valIt r3 (by omega) h1.2.1.b9 r1 r2 (fun G2 q1 q2 q3 q4 q5 q6 => ?_)
  have h2 := h1.guard q4 q3 (fun _ q => q.elim) (Nat.le_refl _) (by omega)
  refine k _ _ h2 q1 ⟨(r4.trans q3 h.1 (fun _ q => q.elim)).mono (fun _ _ q => q.elim), q4, by omega, by omega⟩ (h.2.2.2.1 _ hle) hle
theorem Stq.emp {c s : Nat} (h : Stq (fun _ => False) G G1 c s) : Stq hb G G1 c s := h.wide (fun _ _ q => q.elim)
theorem KS.cntLoop {B : Nat → Prop} {it j : Nat} {v : Int32} (hj : j < nc S) (hv : isHow v) (hit : ¬ B it) (n : Nat) :
    ∀ (k s : Nat) (G : AH), 6 - k < n → KS γ ga tr et B S ms G → TIt γ G it (ga (70 + j)) (et j) (tr j) k 18 →
    wp (f_X7_those_L15 γ (howA γ v) it n (Int32.ofNat s) G) (fun r => r.1 = Int32.ofNat (s + ((ks (tr j) k).filter (fun d => decide (hw S j d = v))).length) ∧ KS γ ga tr et B S ms r.2 ∧ Stq (fun a => a = it) G r.2 0 0) := by
  induction n with
  | zero => intro k s G hk; exact absurd hk (Nat.not_lt_zero _)
  | succ n ih =>
    intro k s G hk h t
    unfold f_X7_those_L15
    have hT := (h.kt hj).1
    refine valStep hT h.2.1.b9 t (fun q0 => ?_) (fun q G1 t1 tm1 f1 w1 s1 m1 => ?_)
    · rw [ks_none q0]
      exact wp_some ⟨rfl, h, Stq.refl h.1 0 0⟩
    · have hkt : hK G it < 28 ∧ hK G it ≠ 15 ∧ hK G it ≠ 21 ∧ hK G it ≠ 26 := by rw [t.1]; decide
      have h1 := h.keepIt hit hkt t.2.1 w1 f1
      have hx : isD S j (nx (tr j) k) := of_decide_eq_true (by rw [← (h.kt hj).2.2 _ q]; exact (nx_lt q).1)
      have st1 : Stq (fun a => a = it) G G1 0 0 := Stq.ofFr h.1 f1 (fun a e => by rw [e]; exact ⟨rfl, hkt.2⟩) w1 (by omega) (by omega)
      have hkn : k ≤ nx (tr j) k := (nx_lt q).2
      have ek := ks_cons q
      have go : ∀ s' : Nat, s' + ((ks (tr j) (nx (tr j) k + 1)).filter (fun d => decide (hw S j d = v))).length = s + ((ks (tr j) k).filter (fun d => decide (hw S j d = v))).length → wp (f_X7_those_L15 γ (howA γ v) it n (Int32.ofNat s') G1) (fun r => r.1 = Int32.ofNat (s + ((ks (tr j) k).filter (fun d => decide (hw S j d = v))).length) ∧ KS γ ga tr et B S ms r.2 ∧ Stq (fun a => a = it) G r.2 0 0) := by
        intro s' es
        refine wp_mono (ih _ s' G1 (by omega) h1 t1) (fun r hr => ⟨by rw [hr.1, es], hr.2.1, (st1.trans h.1 hr.2.2).mono (by omega) (by omega)⟩)
      have ed := (h1.dmp0 hj q).1 hx
      rw [ed.1, if_pos (h1.kd hj q hx).1, h1.how hj q hx, bR_some]
      by_cases c : hw S j (nx (tr j) k) = v
      · rw [if_pos ((h1.howEq hj q hx hv).mpr c), show (1 : Int32) = Int32.ofNat 1 from rfl, i_add]
        refine go _ ?_
        rw [ek, List.filter_cons, if_pos (decide_eq_true c), List.length_cons]; omega
      · rw [if_neg (fun e => c ((h1.howEq hj q hx hv).mp e)), Int32.add_zero]
        refine go _ ?_
        rw [ek, List.filter_cons, if_neg (fun e => c (of_decide_eq_true e))]
theorem KS.cntO {j : Nat} {v : Int32} (h : KS γ ga tr et hb S ms G) (hj : j < nc S) (hv : isHow v) :
    wp (f_X7_those γ (ga (60 + j)) (howA γ v) G) (fun r => r.1 = Int32.ofNat (cnt S j v) ∧ KS γ ga tr et hb S ms r.2 ∧ Stq (fun _ => False) G r.2 2 5) := by
  unfold f_X7_those
  rw [gR_ok (okf (h.ko hj).1 (by decide)), (h.ko hj).2.2.2.2.2.1]
  refine h.valLoopN hj (fun it G2 h2 t2 s2 hb2 hit => ?_)
  refine wp_mono (KS.cntLoop hj hv (fun q => q.2 rfl) FU 0 0 G2 (by show 6 - 0 < 4294967296; decide) h2 t2) (fun r hr => ⟨?_, hr.2.1.mono (fun a q => q.1) h.2.2.1, ?_⟩)
  · rw [hr.1, Nat.zero_add, ← h.dksE hj]; rfl
  · exact ⟨s2.1.trans hr.2.2.1 h.1 (fun a q => Or.inr (by rw [q]; exact hit)), hr.2.2.2.1, by have := s2.2.2.1; have := hr.2.2.2.2.1; omega, by have := s2.2.2.2; have := hr.2.2.2.2.2; omega⟩
theorem KS.off {j : Nat} (h : KS γ ga tr et hb S ms G) (hj : j < nc S) :
    wp (f_X7_off γ (ga (60 + j)) G) (fun r => r.1 = Int32.ofNat (offN S j) ∧ KS γ ga tr et hb S ms r.2 ∧ Stq (fun _ => False) G r.2 4 10) := by
  unfold f_X7_off
  have e7 : γ.1 7 = howA γ 2 := rfl
  have e8 : γ.1 8 = howA γ 4 := rfl
  rw [e7, e8]
  refine wp_bI (wp_ifc (h.ko hj).1 (wp_mono (h.cntO hj (Or.inr (Or.inr (Or.inl rfl)))) (fun r hr => ?_)))
  obtain ⟨r1, h1, s1⟩ := hr
  refine wp_bI (wp_ifc (h1.ko hj).1 (wp_mono (h1.cntO hj (Or.inr (Or.inr (Or.inr (Or.inr rfl))))) (fun r2 hr2 => wp_some ⟨?_, hr2.2.1, (s1.trans h.1 hr2.2.2).mono (by omega) (by omega)⟩)))
  rw [r1, hr2.1, i_add]; rfl
theorem i0 {n : Nat} (hn : n < 1000) : Int32.ofNat n = 0 ↔ n = 0 := ⟨fun e => (i_eq (by omega) (by omega)).mp e, fun e => by rw [e]; rfl⟩
theorem KS.safeC {j : Nat} (h : KS γ ga tr et hb S ms G) (hj : j < nc S) :
    wp (f_X7_isSafe γ (ga (60 + j)) G) (fun r => r.1 = (if safe1 S j = true then 1 else 0) ∧ KS γ ga tr et hb S ms r.2 ∧ Stq (fun _ => False) G r.2 6 15) := by
  unfold f_X7_isSafe
  have e6 : γ.1 6 = howA γ 3 := rfl
  rw [e6]
  have c3 := cnt_le (S := S) (j := j) (v := 3)
  have c2 := cnt_le (S := S) (j := j) (v := 2)
  have c4 := cnt_le (S := S) (j := j) (v := 4)
  have co : offN S j ≤ 12 := by unfold offN; omega
  refine wp_bI (wp_ifc (h.ko hj).1 (wp_mono (h.cntO hj (Or.inr (Or.inr (Or.inr (Or.inl rfl))))) (fun r hr => ?_)))
  obtain ⟨r1, h1, s1⟩ := hr
  rw [r1]
  refine wp_ite (fun e => ?_) (fun e => ?_)
  · refine wp_some ⟨?_, h1, s1.mono (by omega) (by omega)⟩
    rw [if_pos (show safe1 S j = true from decide_eq_true (Or.inl ((i0 (by omega)).mp e)))]
  · refine wp_bI (wp_ifc (h1.ko hj).1 (wp_mono (h1.off hj) (fun r2 hr2 => ?_)))
    rw [hr2.1]
    refine wp_ite (fun e2 => ?_) (fun e2 => ?_)
    · refine wp_some ⟨?_, hr2.2.1, (s1.trans h.1 hr2.2.2).mono (by omega) (by omega)⟩
      rw [if_pos (show safe1 S j = true from decide_eq_true (Or.inr ((i0 (by omega)).mp e2)))]
    · refine wp_some ⟨?_, hr2.2.1, (s1.trans h.1 hr2.2.2).mono (by omega) (by omega)⟩
      rw [if_neg (fun q => by
        rcases of_decide_eq_true q with q | q
        · exact e ((i0 (by omega)).mpr q)
        · exact e2 ((i0 (by omega)).mpr q))]
theorem KS.safeLoop {B : Nat → Prop} {it : Nat} (hit : ¬ B it) (n : Nat) : ∀ (j : Nat) (G : AH), nc S - j < n → j ≤ nc S → KS γ ga tr et B S ms G → AIt γ G it (ga 3) j →
    wp (f_X2_isSafe_L10 γ it n G) (fun r => r.1 = (if safeF S (nc S - j) j = true then 1 else 0) ∧ KS γ ga tr et B S ms r.2 ∧ Stq (fun a => B a ∨ a = it) G r.2 (6 * (nc S - j)) (15 * (nc S - j))) := by
  induction n with
  | zero => intro j G hk; exact absurd hk (Nat.not_lt_zero _)
  | succ n ih =>
    intro j G hn hj h t
    unfold f_X2_isSafe_L10
    refine h.courseStep t hit hj (fun e => ?_) (fun hj2 G1 h1 t1 s1 => ?_)
    · refine wp_some ⟨?_, h, Stq.refl h.1 _ _⟩
      rw [show nc S - j = 0 from by omega]; rfl
    · have ej : nc S - j = (nc S - (j + 1)) + 1 := by omega
      refine wp_bI (wp_ifc (h1.ko hj2).1 (wp_mono (h1.safeC hj2) (fun r hr => ?_)))
      obtain ⟨r1, h2, s2⟩ := hr
      have s12 := s1.trans h.1 s2.emp
      rw [r1, ej]
      show wp _ (fun r : Int32 × AH => r.1 = (if (safe1 S j && safeF S (nc S - (j + 1)) (j + 1)) = true then 1 else 0) ∧ _)
      by_cases c : safe1 S j = true
      · rw [if_pos c, if_neg (by decide), c, Bool.true_and]
        refine wp_mono (ih (j + 1) r.2 (by omega) (by omega) h2 (t1.keepF h1.k3 s2.1 h1.1 (fun q => q) (fun q => q))) (fun r2 hr2 => ⟨hr2.1, hr2.2.1, (s12.trans h.1 hr2.2.2).mono (by omega) (by omega)⟩)
      · rw [if_neg c, if_pos rfl, Bool.eq_false_iff.mpr c, Bool.false_and]
        exact wp_some ⟨rfl, h2, s12.mono (by omega) (by omega)⟩
theorem KS.isSafe (h : KS γ ga tr et hb S ms G) : wp (f_X2_isSafe γ (ga 1) G) (fun r => r.1 = (if safeF S (nc S) 0 = true then 1 else 0) ∧ KS γ ga tr et hb S ms r.2 ∧ Stq hb G r.2 49 124) := by
  have hn := h.bnd
  unfold f_X2_isSafe
  rw [gR_ok (okf h.isK (by decide)), h.k1.2.2.1]
  refine h.courseLoop (fun it G2 h2 t2 s2 hb2 hit => ?_)
  refine wp_mono (KS.safeLoop (fun q => q.2 rfl) FU 0 G2 (by show nc S - 0 < 4294967296; omega) (Nat.zero_le _) h2 t2) (fun r hr => ⟨hr.1, hr.2.1.mono (fun a q => q.1) h.2.2.1, ?_⟩)
  refine (s2.trans h.1 (hr.2.2.wide (fun a _ q => ?_))).mono (by omega) (by omega)
  rcases q with q | q
  · exact q.1
  · rw [q]; exact hb2
theorem KS.readyLoop {B : Nat → Prop} {it : Nat} (hit : ¬ B it) (n : Nat) : ∀ (j : Nat) (s : Int32) (G : AH), nc S - j < n → j ≤ nc S → KS γ ga tr et B S ms G → AIt γ G it (ga 3) j →
    wp (f_X2_ready_L12 γ it n s G) (fun r => r.1 = fo (readyT S) (nc S - j) j s ∧ KS γ ga tr et B S ms r.2 ∧ Stq (fun a => B a ∨ a = it) G r.2 (2 * (nc S - j)) (5 * (nc S - j))) := by
  induction n with
  | zero => intro j s G hk; exact absurd hk (Nat.not_lt_zero _)
  | succ n ih =>
    intro j s G hn hj h t
    unfold f_X2_ready_L12
    refine h.courseStep t hit hj (fun e => ?_) (fun hj2 G1 h1 t1 s1 => ?_)
    · refine wp_some ⟨?_, h, Stq.refl h.1 _ _⟩
      rw [show nc S - j = 0 from by omega]; rfl
    · have ej : nc S - j = (nc S - (j + 1)) + 1 := by omega
      rw [show γ.1 11 = howA γ 1 from rfl]
      refine wp_bI (wp_ifc (h1.ko hj2).1 (wp_mono (h1.cntO hj2 (Or.inr (Or.inl rfl))) (fun r hr => ?_)))
      obtain ⟨r1, h2, s2⟩ := hr
      rw [r1, ej, fo_in]
      refine wp_mono (ih (j + 1) _ r.2 (by omega) (by omega) h2 (t1.keepF h1.k3 s2.1 h1.1 (fun q => q) (fun q => q))) (fun r2 hr2 => ⟨hr2.1, hr2.2.1, ((s1.trans h.1 s2.emp).trans h.1 hr2.2.2).mono (by omega) (by omega)⟩)
theorem KS.ready (h : KS γ ga tr et hb S ms G) : wp (f_X2_ready γ (ga 1) G) (fun r => r.1 = fo (readyT S) (nc S) 0 0 ∧ KS γ ga tr et hb S ms r.2 ∧ Stq hb G r.2 17 44) := by
  have hn := h.bnd
  unfold f_X2_ready
  rw [gR_ok (okf h.isK (by decide)), h.k1.2.2.1]
  refine h.courseLoop (fun it G2 h2 t2 s2 hb2 hit => ?_)
  refine wp_mono (KS.readyLoop (fun q => q.2 rfl) FU 0 0 G2 (by show nc S - 0 < 4294967296; omega) (Nat.zero_le _) h2 t2) (fun r hr => ⟨hr.1, hr.2.1.mono (fun a q => q.1) h.2.2.1, ?_⟩)
  refine (s2.trans h.1 (hr.2.2.wide (fun a _ q => ?_))).mono (by omega) (by omega)
  rcases q with q | q
  · exact q.1
  · rw [q]; exact hb2
theorem KS.dishLoop {B : Nat → Prop} {it : Nat} (hit : ¬ B it) (n : Nat) : ∀ (j : Nat) (s : Int32) (G : AH), nc S - j < n → j ≤ nc S → KS γ ga tr et B S ms G → AIt γ G it (ga 3) j →
    wp (f_X2_dishes_L12 γ it n s G) (fun r => r.1 = fo (dishesT S) (nc S - j) j s ∧ KS γ ga tr et B S ms r.2 ∧ Stq (fun a => B a ∨ a = it) G r.2 0 0) := by
  induction n with
  | zero => intro j s G hk; exact absurd hk (Nat.not_lt_zero _)
  | succ n ih =>
    intro j s G hn hj h t
    unfold f_X2_dishes_L12
    refine h.courseStep t hit hj (fun e => ?_) (fun hj2 G1 h1 t1 s1 => ?_)
    · refine wp_some ⟨?_, h, Stq.refl h.1 _ _⟩
      rw [show nc S - j = 0 from by omega]; rfl
    · rw [if_pos (h1.ko hj2).1, h1.dishes hj2, bR_some, if_pos (h1.kt hj2).1.at0.1, h1.size hj2, bI_some, show nc S - j = (nc S - (j + 1)) + 1 from by omega, fo_in]
      refine wp_mono (ih (j + 1) _ G1 (by omega) (by omega) h1 t1) (fun r2 hr2 => ⟨hr2.1, hr2.2.1, (s1.trans h.1 hr2.2.2).mono (by omega) (by omega)⟩)
theorem KS.dishesA (h : KS γ ga tr et hb S ms G) : wp (f_X2_dishes γ (ga 1) G) (fun r => r.1 = fo (dishesT S) (nc S) 0 0 ∧ KS γ ga tr et hb S ms r.2 ∧ Stq hb G r.2 1 4) := by
  have hn := h.bnd
  unfold f_X2_dishes
  rw [gR_ok (okf h.isK (by decide)), h.k1.2.2.1]
  refine h.courseLoop (fun it G2 h2 t2 s2 hb2 hit => ?_)
  refine wp_mono (KS.dishLoop (fun q => q.2 rfl) FU 0 0 G2 (by show nc S - 0 < 4294967296; omega) (Nat.zero_le _) h2 t2) (fun r hr => ⟨hr.1, hr.2.1.mono (fun a q => q.1) h.2.2.1, ?_⟩)
  refine (s2.trans h.1 (hr.2.2.wide (fun a _ q => ?_))).mono (by omega) (by omega)
  rcases q with q | q
  · exact q.1
  · rw [q]; exact hb2
theorem KS.srvLoop {i : Nat} (h : KS γ ga tr et hb S ms G) (hi : i < nk S) (n : Nat) : ∀ (y : Nat) (s : Int32), 4 - y < n → y ≤ 4 →
    f_X6_served_L13 γ (ga (30 + 3 * i + 2)) (Int32.ofNat 4) n s (Int32.ofNat y) G = some (fo (srvT S i) (4 - y) y s, G) := by
  induction n with
  | zero => intro y s hk; exact absurd hk (Nat.not_lt_zero _)
  | succ n ih =>
    intro y s hn hy
    unfold f_X6_served_L13
    by_cases c : y = 4
    · rw [if_pos (by rw [c]; decide), c]; rfl
    · have k := h.ka hi (b := 2) (by decide)
      rw [if_neg (by rw [i_le (by omega) (by omega)]; omega), gA_ok (okx k.1 k.2.1 (show y < 4 by omega) (by decide)), i_nat (by omega), k.2.2.2 y (by omega), show (1 : Int32) = Int32.ofNat 1 from rfl, i_add, ih (y + 1) _ (by omega) (by omega), show 4 - y = (4 - (y + 1)) + 1 from by omega, fo_in]
      rfl
theorem KS.srv {i : Nat} (h : KS γ ga tr et hb S ms G) (hi : i < nk S) : f_X6_served γ (ga (10 + i)) G = some (srvP S i, G) := by
  have k := h.ka hi (b := 2) (by decide)
  unfold f_X6_served
  rw [gR_ok (okf (h.kc hi).1 (by decide)), (h.kc hi).2.2.2.2.2.2.1]
  unfold gL
  rw [if_pos (by rw [k.1]; decide), k.2.1]
  exact h.srvLoop hi FU 0 0 (by show _ < 4294967296; decide) (by decide)
theorem KS.servLoop {B : Nat → Prop} {it : Nat} (hit : ¬ B it) (n : Nat) : ∀ (j : Nat) (s : Int32) (G : AH), nk S - j < n → j ≤ nk S → KS γ ga tr et B S ms G → AIt γ G it (ga 2) j →
    wp (f_X2_served_L12 γ it n s G) (fun r => r.1 = fo (servT S) (nk S - j) j s ∧ KS γ ga tr et B S ms r.2 ∧ Stq (fun a => B a ∨ a = it) G r.2 0 0) := by
  induction n with
  | zero => intro j s G hk; exact absurd hk (Nat.not_lt_zero _)
  | succ n ih =>
    intro j s G hn hj h t
    unfold f_X2_served_L12
    refine h.cookStep t hit hj (fun e => ?_) (fun hj2 G1 h1 t1 s1 => ?_)
    · refine wp_some ⟨?_, h, Stq.refl h.1 _ _⟩
      rw [show nk S - j = 0 from by omega]; rfl
    · rw [if_pos (h1.kc hj2).1, h1.srv hj2, bI_some, show nk S - j = (nk S - (j + 1)) + 1 from by omega, fo_in]
      refine wp_mono (ih (j + 1) _ G1 (by omega) (by omega) h1 t1) (fun r2 hr2 => ⟨hr2.1, hr2.2.1, (s1.trans h.1 hr2.2.2).mono (by omega) (by omega)⟩)
theorem KS.served (h : KS γ ga tr et hb S ms G) : wp (f_X2_served γ (ga 1) G) (fun r => r.1 = fo (servT S) (nk S) 0 0 ∧ KS γ ga tr et hb S ms r.2 ∧ Stq hb G r.2 1 4) := by
  have hn := h.bnd
  unfold f_X2_served
  rw [gR_ok (okf h.isK (by decide)), h.k1.2.1]
  refine h.cookLoop (fun it G2 h2 t2 s2 hb2 hit => ?_)
  refine wp_mono (KS.servLoop (fun q => q.2 rfl) FU 0 0 G2 (by show nk S - 0 < 4294967296; omega) (Nat.zero_le _) h2 t2) (fun r hr => ⟨hr.1, hr.2.1.mono (fun a q => q.1) h.2.2.1, ?_⟩)
  refine (s2.trans h.1 (hr.2.2.wide (fun a _ q => ?_))).mono (by omega) (by omega)
  rcases q with q | q
  · exact q.1
  · rw [q]; exact hb2
theorem KS.isOff {j d : Nat} (h : KS γ ga tr et hb S ms G) (hj : j < nc S) (hd : d < 6) (hx : isD S j d) :
    (if hK G (howA γ (hw S j d)) = 37 then f_X9_isOff γ (howA γ (hw S j d)) G else if hK G (howA γ (hw S j d)) = 38 then f_X9_isOff γ (howA γ (hw S j d)) G else if hK G (howA γ (hw S j d)) = 39 then some ((1 : Int32), G) else if hK G (howA γ (hw S j d)) = 40 then f_X9_isOff γ (howA γ (hw S j d)) G else if hK G (howA γ (hw S j d)) = 41 then some ((1 : Int32), G) else none) = some ((if hw S j d = 2 ∨ hw S j d = 4 then 1 else 0), G) := by
  have ko := h.kd hj hd hx
  have q := h.2.1.how ko.2.2.2.2.2.1
  have qk : hK G (howA γ (hw S j d)) = howK (hw S j d) := q.1
  rw [qk]
  unfold f_X9_isOff
  rcases ko.2.2.2.2.2.1 with w | w | w | w | w
  · have w' : hw S j d = 0 := w
    rw [w']; rfl
  · have w' : hw S j d = 1 := w
    rw [w']; rfl
  · have w' : hw S j d = 2 := w
    rw [w']; rfl
  · have w' : hw S j d = 3 := w
    rw [w']; rfl
  · have w' : hw S j d = 4 := w
    rw [w']; rfl
theorem KS.dofLoop {B : Nat → Prop} {it i : Nat} {v b : Int32} (hi : i < 6) (hv : isHow v) (hit : ¬ B it) (n : Nat) : ∀ (j : Nat) (s : Int32) (G : AH), nc S - j < n → j ≤ nc S → KS γ ga tr et B S ms G → AIt γ G it (ga 3) j →
    wp (f_X2_dishesOf_L14 γ (Int32.ofNat i) (howA γ v) b it n s G) (fun r => r.1 = fo (dofT S i v b) (nc S - j) j s ∧ KS γ ga tr et B S ms r.2 ∧ Stq (fun a => B a ∨ a = it) G r.2 0 0) := by
  induction n with
  | zero => intro j s G hk; exact absurd hk (Nat.not_lt_zero _)
  | succ n ih =>
    intro j s G hn hj h t
    unfold f_X2_dishesOf_L14
    refine h.courseStep t hit hj (fun e => ?_) (fun hj2 G1 h1 t1 s1 => ?_)
    · refine wp_some ⟨?_, h, Stq.refl h.1 0 0⟩
      rw [show nc S - j = 0 from by omega]; rfl
    · have hstep : ∀ s', dofT S i v b j s = s' → wp (f_X2_dishesOf_L14 γ (Int32.ofNat i) (howA γ v) b it n s' G1) (fun r => r.1 = fo (dofT S i v b) (nc S - j) j s ∧ KS γ ga tr et B S ms r.2 ∧ Stq (fun a => B a ∨ a = it) G r.2 0 0) := by
        intro s' es
        refine wp_mono (ih (j + 1) s' G1 (by omega) (by omega) h1 t1) (fun r hr => ⟨?_, hr.2.1, (s1.trans h.1 hr.2.2).mono (by omega) (by omega)⟩)
        rw [hr.1, show nc S - j = (nc S - (j + 1)) + 1 from by omega, fo_in, es]
      have yes : dofB S i v b j = true → dofT S i v b j s = s + 1 := fun e => if_pos e
      have no : dofB S i v b j = false → dofT S i v b j s = s := fun e => if_neg (by rw [e]; decide)
      rw [if_pos (h1.ko hj2).1, h1.of hj2 hi, bR_some]
      by_cases hx : isD S j i
      · have e := (h1.dmp0 hj2 hi).1 hx
        have k := h1.kd hj2 hi hx
        rw [if_neg e.2, e.1, if_pos k.1, h1.how hj2 hi hx, bR_some]
        refine wp_ite (fun e0 => ?_) (fun e0 => ?_)
        · by_cases c : hw S j i = v
          · rw [if_pos ((h1.howEq hj2 hi hx hv).mpr c)]
            exact hstep _ (yes (by unfold dofB; rw [if_pos e0, decide_eq_true hx, decide_eq_true c]; rfl))
          · rw [if_neg (fun q => c ((h1.howEq hj2 hi hx hv).mp q)), Int32.add_zero]
            exact hstep _ (no (by unfold dofB; rw [if_pos e0, decide_eq_false c, Bool.and_false]))
        · rw [bR_some, h1.isOff hj2 hi hx, bI_some]
          by_cases c : hw S j i = 2 ∨ hw S j i = 4
          · rw [if_pos c, if_neg (by decide)]
            exact hstep _ (yes (by unfold dofB; rw [if_neg e0, decide_eq_true hx, decide_eq_true c]; rfl))
          · rw [if_neg c, if_pos rfl, Int32.add_zero]
            exact hstep _ (no (by unfold dofB; rw [if_neg e0, decide_eq_false c, Bool.and_false]))
      · rw [if_pos ((h1.dmp0 hj2 hi).2 hx), Int32.add_zero]
        exact hstep _ (no (by unfold dofB; rw [decide_eq_false hx, Bool.false_and]))
theorem KS.dishesOf {i : Nat} {v b : Int32} (h : KS γ ga tr et hb S ms G) (hi : i < 6) (hv : isHow v) : wp (f_X2_dishesOf γ (ga 1) (Int32.ofNat i) (howA γ v) b G) (fun r => r.1 = fo (dofT S i v b) (nc S) 0 0 ∧ KS γ ga tr et hb S ms r.2 ∧ Stq hb G r.2 1 4) := by
  have hn := h.bnd
  unfold f_X2_dishesOf
  rw [gR_ok (okf h.isK (by decide)), h.k1.2.2.1]
  refine h.courseLoop (fun it G2 h2 t2 s2 hb2 hit => ?_)
  refine wp_mono (KS.dofLoop hi hv (fun q => q.2 rfl) FU 0 0 G2 (by show nc S - 0 < 4294967296; omega) (Nat.zero_le _) h2 t2) (fun r hr => ⟨hr.1, hr.2.1.mono (fun a q => q.1) h.2.2.1, ?_⟩)
  refine (s2.trans h.1 (hr.2.2.wide (fun a _ q => ?_))).mono (by omega) (by omega)
  rcases q with q | q
  · exact q.1
  · rw [q]; exact hb2
theorem KS.freeAgain {i ing : Nat} (h : KS γ ga tr et hb S ms G) (hi : i < nk S) (hg : ing < 4) : wp (f_X2_freeAgain γ (ga 1) (Int32.ofNat i) (Int32.ofNat ing) G) (fun r => r.1 = (sk S i (7 + ing) - sk S i (11 + ing)) - reservedP S i (Int32.ofNat ing) ∧ KS γ ga tr et hb S ms r.2 ∧ Stq hb G r.2 1 4) := by
  have k := h.kc hi
  have a1 := h.arrG (b := 1) (ing := ing) hi (by decide) hg
  have a2 := h.arrG (b := 2) (ing := ing) hi (by decide) hg
  unfold f_X2_freeAgain
  rw [if_pos h.isK, h.cook hi, bR_some, if_pos k.1]
  unfold f_X6_left
  rw [gR_ok (okf k.1 (by decide)), k.2.2.2.2.2.1, gA_ok a1.1, gR_ok (okf k.1 (by decide)), k.2.2.2.2.2.2.1, gA_ok a2.1, bI_some, if_pos h.isK, a1.2, a2.2]
  refine wp_bI (wp_mono (h.reserved (h.nk_ hi)) (fun r hr => wp_some ⟨?_, hr.2⟩))
  show _ - r.1 = _
  rw [hr.1]
end C29
