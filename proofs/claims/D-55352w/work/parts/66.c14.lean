/-- a refusal's object -/
def RefX (γ : GP) (g : AH) (q : Nat) (a b : Int32) : Prop := hK g q = 24 ∧ γ.2 < q ∧ hI g 103 q = a ∧ hI g 104 q = b
section C14
variable {γ : GP} {G G1 : AH} {ga : Nat → Nat} {tr : Nat → List Nat} {et : Nat → Nat → Nat} {S : St} {hb : Nat → Prop} {ms : List Ms}
def exC (c : Nat) : Prop := c ∈ thrC ∧ c < 37 ∧ 51 ∈ cFl c ∧ 52 ∈ cFl c ∧ 53 ∈ cFl c ∧ 54 ∈ cFl c ∧ 55 ∈ cFl c ∧ c ≠ 15 ∧ c ≠ 21 ∧ c ≠ 26
theorem J9_init_4 {q c m z : Nat} (hw : Wf G) (hk : hK G q = c) (hc : exC c) (hb : γ.2 < q) (h55 : hR G 55 q = 0) : wp (f_J9_init_4 γ q m z G) (fun r => Fr (fun a => a = q) G r ∧ Wf r ∧ hS r = hS G ∧ hM r = hM G) := by
  obtain ⟨c0, c1, c2, c3, c4, c5, c6, _⟩ := hc
  unfold f_J9_init_4
  refine wp_ifc (by omega) (wp_pR (okw hk ⟨c2, c1⟩ hb) (wp_pR (okw (c := c) hk ⟨c3, c1⟩ hb) (wp_pR (okw (c := c) hk ⟨c4, c1⟩ hb) ?_)))
  unfold okFill
  rw [if_pos ⟨hb, (by show hK G q ∈ thrC; rw [hk]; exact c0), by rw [rf (by decide), rs], by rw [rf (by decide), rf (by decide), rf (by decide)]; exact h55⟩]
  exact wp_pR (okw (c := c) hk ⟨c5, c1⟩ hb) (wp_pR (okw (c := c) hk ⟨c2, c1⟩ hb) (wp_some ⟨(((((Fr.refl (fun a => a = q) G).sR (Or.inl rfl)).sR (Or.inl rfl)).sR (Or.inl rfl)).sR (Or.inl rfl)).sR (Or.inl rfl), ((((hw.sR).sR).sR).sR).sR, rfl, rfl⟩))
theorem exC24 : exC 24 := by unfold exC; decide
theorem meet_ok {β : Type} {z a b : Int32} {Tk : Nat → AH → Option β} {K : AH → Option β} (hz : z ≠ 0) : bXV (f_X1_meet γ z a b G) Tk K = K G := by
  unfold f_X1_meet
  rw [if_neg hz]
  rfl
theorem meet_no {β : Type} {z a b : Int32} {Q : β → Prop} {Tk : Nat → AH → Option β} {K : AH → Option β} (hw : Wf G) (hc : Cn γ G) (hz : z = 0)
    (k : ∀ q g, RefX γ g q a b → Fc (fun _ => False) G g → Wf g → hS G ≤ q → hS g = hS G + 1 → hM g = hM G + 8 → wp (Tk q g) Q) : wp (bXV (f_X1_meet γ z a b G) Tk K) Q := by
  obtain ⟨n1, n2, n3, n4⟩ := newObj (c := 24) (n := cInst 24) hw
  have hlt := hc.lt
  unfold f_X1_meet
  rw [if_pos hz]
  have main : wp (mO G 24 fun q1 g2 => bV (if q1 ≠ 0 then f_X10_init γ q1 a b g2 else none) fun g3 => (tw γ g3 q1 (thr q1 g3) : Option (AH ⊕ (Nat × AH)))) (fun r => ∃ q g, r = .inr (q, g) ∧ RefX γ g q a b ∧ Fc (fun _ => False) G g ∧ Wf g ∧ hS G ≤ q ∧ hS g = hS G + 1 ∧ hM g = hM G + 8) := by
    refine wp_mO (wp_bV ?_)
    rw [if_pos n4]
    unfold f_X10_init
    refine wp_bV ?_
    rw [if_pos n4]
    unfold f_J10_init_4
    refine wp_bV ?_
    rw [if_pos n4]
    refine wp_mono (J9_init_4 n2 n3 exC24 hlt (by rw [hR_nO, if_pos rfl])) (fun r hr => wp_some ?_)
    obtain ⟨r1, r2, r3, r4⟩ := hr
    have kr : hK r (hS G) = 24 := by rw [(r1.2.2.1 (hS G) (Nat.lt_succ_self _)).1]; exact n3
    refine wp_pI ⟨okw kr (by decide) hlt, rfl, rfl⟩ (wp_pI ⟨okw (c := 24) kr (by decide) hlt, rfl, rfl⟩ (wp_some ?_))
    have f1 : Fr (fun _ => False) G r := n1.trans r1 (fun b e => Or.inr (by rw [e]; exact Nat.le_refl _))
    have f2 : Fr (fun _ => False) G (sI (sI r 103 (hS G) a) 104 (hS G) b) := (f1.sI (Or.inr (Nat.le_refl _))).sI (Or.inr (Nat.le_refl _))
    unfold tw
    rw [if_pos ⟨by show hK r (hS G) ≠ 0; rw [kr]; decide, by show hK r (hS G) < 100; rw [kr]; decide, hlt⟩]
    refine ⟨_, rfl, hS G, _, rfl, ⟨kr, hlt, ?_, ?_⟩, f2.toC hw (fun _ _ q => q.elim), (r2.sI).sI, Nat.le_refl _, r3, r4⟩
    · rw [hI_sI, if_neg (fun e => absurd e.1 (by decide)), hI_sI, if_pos ⟨rfl, rfl⟩]
    · rw [hI_sI, if_pos ⟨rfl, rfl⟩]
  obtain ⟨r, er, q, g, e1, e2, e3, e4, e5, e6, e7⟩ := main
  rw [er, e1]
  exact k q g e2 e3 e4 e5 e6 e7
/-- a command's two ends -/
def CmdQ (γ : GP) (ga : Nat → Nat) (tr : Nat → List Nat) (et : Nat → Nat → Nat) (hb : Nat → Prop) (G : AH) (ms : List Ms) (c s : Nat) (o : (Int32 × St × List Ms) ⊕ (Int32 × Int32)) (r : (Int32 × AH) ⊕ (Nat × AH)) : Prop := match o with
  | .inl (v, S1, new) => ∃ g, r = .inl (v, g) ∧ KS γ ga tr et hb S1 (ms ++ new) g ∧ Stq hb G g c s
  | .inr (a, b) => ∃ q g, r = .inr (q, g) ∧ RefX γ g q a b ∧ hS G ≤ q ∧ Stq hb G g c s
theorem KS.refuse {a b : Int32} {c s : Nat} {z : Int32} {K : AH → Option ((Int32 × AH) ⊕ (Nat × AH))} (h : KS γ ga tr et hb S ms G) (hz : z = 0) (hc1 : 1 ≤ c) (hs8 : 8 ≤ s) : wp (bXV (f_X1_meet γ z a b G) (fun e8 g9 => (thr e8 g9)) K) (CmdQ γ ga tr et hb G ms c s (.inr (a, b))) := by
  refine meet_no h.1 h.2.1 hz (fun q g e1 e2 e3 e4 e5 e6 => wp_some ⟨q, g, rfl, e1, e4, e2.mono (fun _ _ q => q.elim), e3, by omega, by omega⟩)
theorem KS.isEmptyF (h : KS γ ga tr et hb S ms G) {j : Nat} (hj : j < nc S) : f_J27_isEmpty γ (ga (70 + j)) G = some ((if (dks S j).length = 0 then 1 else 0), G) := by
  have hd := dks_le (S := S) j
  unfold f_J27_isEmpty
  rw [if_pos (h.kt hj).1.at0.1, h.size hj, bI_some]
  by_cases c : (dks S j).length = 0
  · rw [if_pos c, if_pos (show Int32.ofNat (dks S j).length = 0 by rw [c]; rfl)]; rfl
  · rw [if_neg c, if_neg (show ¬ Int32.ofNat (dks S j).length = 0 from fun e => c ((i_eq (b := 0) (by omega) (by omega)).mp e))]; rfl
theorem KS.invLoop {B : Nat → Prop} {it j : Nat} {K : AH → Option ((Int32 × AH) ⊕ (Nat × AH))} {Q : (Int32 × AH) ⊕ (Nat × AH) → Prop} (hj : j < nc S) (hDn : ∀ d, d < 6 → isD S j d → d < nk S) (hit : ¬ B it) (n : Nat) :
    ∀ (k : Nat) (ms : List Ms) (G : AH), 6 - k < n → KS γ ga tr et B S ms G → TIt γ G it (ga (70 + j)) (et j) (tr j) k 17 → ms.length + 6 < 10000 + k →
    (∀ r, KS γ ga tr et B S (ms ++ (ks (tr j) k).map (fun d => mg S 0 d j)) r → Stq (fun a => B a ∨ a = it) G r (2 * (ks (tr j) k).length) (6 * (ks (tr j) k).length) → wp (K r) Q) →
    wp (f_X2_asks_L101 γ (ga 1) (Int32.ofNat j) (ga (60 + j)) it K n G) Q := by
  induction n with
  | zero => intro k ms G hk; exact absurd hk (Nat.not_lt_zero _)
  | succ n ih =>
    intro k ms G hk h t hlen kk
    unfold f_X2_asks_L101
    have hT := (h.kt hj).1
    refine keyStep hT h.2.1.b9 t (fun q0 => ?_) (fun q G1 t1 tm1 f1 w1 s1 m1 => ?_)
    · have e := ks_none q0
      refine kk G ?_ (by rw [e]; exact Stq.refl h.1 0 0)
      rw [e, List.map_nil, List.append_nil]; exact h
    · have hkt : hK G it < 28 ∧ hK G it ≠ 15 ∧ hK G it ≠ 21 ∧ hK G it ≠ 26 := by rw [t.1]; decide
      have h1 := h.keepIt hit hkt t.2.1 w1 f1
      have hxD : isD S j (nx (tr j) k) := of_decide_eq_true (by rw [← (h.kt hj).2.2 _ q]; exact (nx_lt q).1)
      have hd := hDn _ q hxD
      have st1 : Stq (fun a => B a ∨ a = it) G G1 0 0 := Stq.ofFr h.1 f1 (fun a e => by rw [e]; exact ⟨Or.inr rfl, hkt.2⟩) w1 (by omega) (by omega)
      have hkn : k ≤ nx (tr j) k := (nx_lt q).2
      obtain ⟨n1, n2, n3, n4⟩ := newObj (c := 29) (n := cInst 29) h1.1
      have hbb := h1.2.1.lt
      have hN := h1.keepAll n2 (n1.toC h1.1 (fun _ _ q => q.elim)) (fun _ q => q.elim)
      have hml : ms.length < 10000 := by omega
      have ek := ks_cons q
      rw [gR_ok (okf h1.isK (by decide)), h1.k1.2.2.2.2.1]
      refine wp_mO ?_
      rw [if_pos hN.isK, hN.arrival hd, bI_some, if_pos n4]
      refine h1.post (m := mg S 0 (nx (tr j) k) j) (K := fun g32 => f_X2_asks_L101 γ (ga 1) (Int32.ofNat j) (ga (60 + j)) it K n g32) (Kx := fun g => f_X13_init γ (hS G1) (Int32.ofNat (nx (tr j) k)) (Int32.ofNat j) (sg S 0 + sk S (nx (tr j) k) 0) g) (n := 0) (by decide) hml (wp_mono (X13_init n3 hbb n2) (fun r hr => ⟨(⟨hr.1, hr.2.1, hr.2.2.1⟩ : hI r 113 (hS G1) = Int32.ofNat (nx (tr j) k) ∧ hI r 114 (hS G1) = Int32.ofNat j ∧ hI r 115 (hS G1) = sg S 0 + sk S (nx (tr j) k) 0), hr.2.2.2⟩)) (fun r p k2 => Or.inl ⟨rfl, k2, p.1, p.2.1, p.2.2⟩) (fun r h2 s2 => ?_)
      have t2 : TIt γ r it (ga (70 + j)) (et j) (tr j) (nx (tr j) k + 1) 17 := t1.keep (by decide) tm1 (h2.kt hj).1 s2.1 hit
      refine ih _ _ _ (by omega) h2 t2 (by rw [List.length_append]; show ms.length + 1 + 6 < _; omega) (fun r3 h3 s3 => kk r3 ?_ ?_)
      · rw [ek, List.map_cons]
        rw [List.append_assoc] at h3
        exact h3
      · have := (st1.trans h.1 (s2.wide (fun a _ q => Or.inl q))).trans h.1 s3
        refine this.mono ?_ ?_
        · rw [ek, List.length_cons]; omega
        · rw [ek, List.length_cons, show cInst 29 = 3 from rfl]; omega
theorem KS.asks {j : Nat} (h : KS γ ga tr et hb S ms G) (hj : j < nc S) (o : Ok S) (hl : ms.length + 6 < 10000) : wp (f_X2_asks γ (ga 1) (Int32.ofNat j) G) (CmdQ γ ga tr et hb G ms 16 94 (asksP S j)) := by
  have hwf := h.1
  have hd := dks_le (S := S) j
  unfold f_X2_asks asksP
  rw [gR_ok (okf h.isK (by decide)), h.k1.2.2.2.1, if_pos h.k4.1]
  unfold f_X3_hasFainted
  rw [gI_ok (okf h.k4.1 (by decide)), h.k4.2.1, rtB o.2.2.2.2, bI_some]
  unfold jn
  dsimp only
  by_cases c3 : sg S 3 = 0
  · rw [if_pos c3, if_pos c3, meet_ok (by decide), if_pos h.isK, h.course hj, bR_some, if_pos (h.ko hj).1, h.phase hj, bI_some]
    by_cases c0 : sc S j 0 = 0
    · rw [if_pos c0, if_pos c0, if_pos (h.ko hj).1, h.phase hj, bI_some, meet_ok (by decide), if_pos (h.ko hj).1, h.dishes hj, bR_some, if_pos (h.kt hj).1.at0.1, h.isEmptyF hj, bI_some]
      by_cases cd : (dks S j).length = 0
      · rw [if_pos cd, if_pos cd, if_neg (by decide)]
        exact h.refuse rfl (by decide) (by decide)
      · rw [if_neg cd, if_neg cd, if_pos rfl, meet_ok (by decide), gI_ok (okf h.isK (by decide)), h.k1.2.2.2.2.2.1]
        refine wp_bV (wp_ifc (h.ko hj).1 ?_)
        unfold f_X7_isAskedIn
        refine h.pPhase hj (fun h1 s1 => h1.pAsked hj (fun h2 s2 => wp_some ?_))
        rw [gR_ok (okf h2.isK (by decide)), h2.k1.2.2.2.1, gI_ok (okf h2.isK (by decide)), h2.k1.2.2.2.2.2.1]
        refine wp_bV (wp_ifc h2.k4.1 (wp_mono (h2.logH (v1 := 0) (v2 := Int32.ofNat j) (o.1 0 (by decide))) (fun r hr => ?_)))
        obtain ⟨h3, s3⟩ := hr
        have hj3 : j < nc (usl (usc (usc S j 0 1) j 1 (sg S 0)) 0 (0, Int32.ofNat j, sg S 0)) := hj
        have eD : ∀ j2 d, isD (usl (usc (usc S j 0 1) j 1 (sg S 0)) 0 (0, Int32.ofNat j, sg S 0)) j2 d ↔ isD S j2 d := fun j2 d => by
          unfold isD
          show 0 < sc (usc (usc S j 0 1) j 1 (sg S 0)) j2 (4 + 4 * d) ↔ _
          rw [sc_usc, if_neg (fun e => by omega), sc_usc, if_neg (fun e => by omega)]
        have edk : dks (usl (usc (usc S j 0 1) j 1 (sg S 0)) 0 (0, Int32.ofNat j, sg S 0)) j = dks S j := List.filter_congr (fun d _ => decide_eq_decide.mpr (eD j d))
        rw [if_pos (h3.ko hj3).1, h3.dishes hj3, bR_some]
        refine h3.keyLoop hj3 (fun it G2 h4 t4 s4 hb4 hit => ?_)
        refine KS.invLoop hj3 (fun d hd6 hx => o.dn hj d hd6 ((eD j d).mp hx)) (fun q => q.2 rfl) FU 0 ms G2 (by show 6 - 0 < 4294967296; decide) h4 t4 (by omega) (fun r5 h5 s5 => ?_)
        rw [if_pos (h5.ko hj3).1, h5.dishes hj3, bR_some, if_pos (h5.kt hj3).1.at0.1, h5.size hj3, bI_some, edk]
        have hks : ks (tr j) 0 = dks S j := by rw [← edk]; exact (h3.dksE hj3).symm
        rw [hks] at h5 s5
        refine wp_some ⟨_, rfl, h5.mono (fun a q => q.1) h.2.2.1, ?_⟩
        refine ((((s1.trans hwf s2).trans hwf s3).trans hwf s4).trans hwf (s5.wide (fun a _ q => ?_))).mono (by omega) (by omega)
        rcases q with q | q
        · exact q.1
        · rw [q]; exact hb4
    · rw [if_neg c0, if_neg c0, if_pos (h.ko hj).1, h.phase hj, bI_some]
      exact h.refuse rfl (by decide) (by decide)
  · rw [if_neg c3, if_neg c3]
    exact h.refuse rfl (by decide) (by decide)
end C14
