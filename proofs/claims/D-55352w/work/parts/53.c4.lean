section C4
variable {γ : GP} {G G1 : AH} {ga : Nat → Nat} {tr : Nat → List Nat} {et : Nat → Nat → Nat} {S : St} {hb : Nat → Prop} {ms : List Ms}
theorem KS.dmp0 {j d : Nat} (h : KS γ ga tr et hb S ms G) (hj : j < nc S) (hd : d < 6) : (isD S j d → dmp S ga j d = ga (80 + 6 * j + d) ∧ dmp S ga j d ≠ 0) ∧ (¬ isD S j d → dmp S ga j d = 0) := by
  refine ⟨fun hx => ?_, fun hx => if_neg hx⟩
  have e : dmp S ga j d = ga (80 + 6 * j + d) := if_pos hx
  refine ⟨e, ?_⟩
  have := h.1.2 _ (show hK G (ga (80 + 6 * j + d)) ≠ 0 by rw [(h.kd hj hd hx).1]; decide)
  rw [e]; omega
theorem KS.resLoop {B : Nat → Prop} {it i : Nat} {ing : Int32} (hi : i < 6) (hit : ¬ B it) (n : Nat) : ∀ (j : Nat) (s : Int32) (G : AH), nc S - j < n → j ≤ nc S → KS γ ga tr et B S ms G → AIt γ G it (ga 3) j →
    wp (f_X2_reserved_L13 γ (Int32.ofNat i) ing it n s G) (fun r => r.1 = fo (resT S i ing) (nc S - j) j s ∧ KS γ ga tr et B S ms r.2 ∧ Stq (fun a => B a ∨ a = it) G r.2 0 0) := by
  induction n with
  | zero => intro j s G hk; exact absurd hk (Nat.not_lt_zero _)
  | succ n ih =>
    intro j s G hn hj h t
    unfold f_X2_reserved_L13
    refine h.courseStep t hit hj (fun e => ?_) (fun hj2 G1 h1 t1 s1 => ?_)
    · refine wp_some ⟨?_, h, Stq.refl h.1 0 0⟩
      rw [show nc S - j = 0 from by omega]; rfl
    · have hstep : ∀ s', resT S i ing j s = s' → wp (f_X2_reserved_L13 γ (Int32.ofNat i) ing it n s' G1) (fun r => r.1 = fo (resT S i ing) (nc S - j) j s ∧ KS γ ga tr et B S ms r.2 ∧ Stq (fun a => B a ∨ a = it) G r.2 0 0) := by
        intro s' es
        refine wp_mono (ih (j + 1) s' G1 (by omega) (by omega) h1 t1) (fun r hr => ⟨?_, hr.2.1, (s1.trans h.1 hr.2.2).mono (by omega) (by omega)⟩)
        rw [hr.1, show nc S - j = (nc S - (j + 1)) + 1 from by omega, fo_in, es]
      rw [if_pos (h1.ko hj2).1, h1.of hj2 hi, bR_some]
      by_cases hx : isD S j i
      · have e := (h1.dmp0 hj2 hi).1 hx
        have k := h1.kd hj2 hi hx
        rw [if_neg e.2, e.1, if_pos k.1, h1.isReady hj2 hi hx, bI_some]
        by_cases c : hw S j i = 1
        · rw [if_pos c, if_neg (by decide), if_pos k.1, h1.ingr hj2 hi hx, bI_some]
          by_cases c2 : ig S j i = ing
          · rw [if_pos c2, if_pos k.1, h1.amnt hj2 hi hx, bI_some]
            exact hstep _ (if_pos ⟨hx, c, c2⟩)
          · rw [if_neg c2, Int32.add_zero]
            exact hstep _ (if_neg (fun q => c2 q.2.2))
        · rw [if_neg c, if_pos rfl, Int32.add_zero]
          exact hstep _ (if_neg (fun q => c q.2.1))
      · rw [if_pos ((h1.dmp0 hj2 hi).2 hx), Int32.add_zero]
        exact hstep _ (if_neg (fun q => hx q.1))
theorem KS.reserved {i : Nat} {ing : Int32} (h : KS γ ga tr et hb S ms G) (hi : i < 6) : wp (f_X2_reserved γ (ga 1) (Int32.ofNat i) ing G) (fun r => r.1 = reservedP S i ing ∧ KS γ ga tr et hb S ms r.2 ∧ Stq hb G r.2 1 4) := by
  have hn := h.bnd
  unfold f_X2_reserved
  rw [gR_ok (okf h.isK (by decide)), h.k1.2.2.1]
  refine h.courseLoop (fun it G2 h2 t2 s2 hb2 hit => ?_)
  refine wp_mono (KS.resLoop hi (fun q => q.2 rfl) FU 0 0 G2 (by show nc S - 0 < 4294967296; omega) (Nat.zero_le _) h2 t2) (fun r hr => ⟨hr.1, hr.2.1.mono (fun a q => q.1) h.2.2.1, ?_⟩)
  refine (s2.trans h.1 (hr.2.2.wide (fun a _ q => ?_))).mono (by omega) (by omega)
  rcases q with q | q
  · exact q.1
  · rw [q]; exact hb2
theorem KS.arrG {i b ing : Nat} (h : KS γ ga tr et hb S ms G) (hi : i < nk S) (hbb : b < 3) (hg : ing < 4) : okX G (ga (30 + 3 * i + b)) 101 (Int32.ofNat ing) ∧ hA G (ga (30 + 3 * i + b)) (Int32.ofNat ing).toNatClampNeg = sk S i (3 + 4 * b + ing) := by
  have k := h.ka hi hbb
  exact ⟨okx k.1 k.2.1 hg (by decide), by rw [i_nat (by omega)]; exact k.2.2.2 ing hg⟩
theorem KS.stock {i ing : Nat} (h : KS γ ga tr et hb S ms G) (hi : i < nk S) (hg : ing < 4) : f_X6_stock γ (ga (10 + i)) (Int32.ofNat ing) G = some (sk S i (3 + ing), G) := by
  have k := h.kc hi
  have a := h.arrG (b := 0) hi (by decide) hg
  unfold f_X6_stock
  rw [gR_ok (okf k.1 (by decide)), k.2.2.2.2.1, gA_ok (show okX G (ga (30 + 3 * i)) 101 (Int32.ofNat ing) from a.1)]
  show some (hA G (ga (30 + 3 * i + 0)) (Int32.ofNat ing).toNatClampNeg, G) = _
  rw [a.2]
theorem KS.free {i ing : Nat} (h : KS γ ga tr et hb S ms G) (hi : i < nk S) (hg : ing < 4) : wp (f_X2_free γ (ga 1) (Int32.ofNat i) (Int32.ofNat ing) G) (fun r => r.1 = freeP S i ing ∧ KS γ ga tr et hb S ms r.2 ∧ Stq hb G r.2 1 4) := by
  unfold f_X2_free
  rw [if_pos h.isK, h.cook hi, bR_some, if_pos (h.kc hi).1, h.stock hi hg, bI_some, if_pos h.isK]
  refine wp_bI (wp_mono (h.reserved (h.nk_ hi)) (fun r hr => wp_some ⟨?_, hr.2⟩))
  show sk S i (3 + ing) - r.1 = _
  rw [hr.1]; rfl
theorem KS.how {j d : Nat} (h : KS γ ga tr et hb S ms G) (hj : j < nc S) (hd : d < 6) (hx : isD S j d) : f_X8_how γ (ga (80 + 6 * j + d)) G = some (howA γ (hw S j d), G) := by
  have k := h.kd hj hd hx
  unfold f_X8_how
  rw [gR_ok (okf k.1 (by decide)), k.2.2.2.1]
  rfl
theorem KS.howEq {j d : Nat} (h : KS γ ga tr et hb S ms G) (hj : j < nc S) (hd : d < 6) (hx : isD S j d) {v : Int32} (hv : isHow v) : howA γ (hw S j d) = howA γ v ↔ hw S j d = v :=
  ⟨fun e => h.2.1.howInj (h.kd hj hd hx).2.2.2.2.2.1 hv e, fun e => by rw [e]⟩
theorem KS.invited {j d : Nat} (h : KS γ ga tr et hb S ms G) (hj : j < nc S) (hd : d < nk S) (hx : isD S j d) (hgI : ign S j d < 4 ∧ ig S j d = Int32.ofNat (ign S j d)) (hlen : (sl S (d + 1)).length ≤ 20) (hm : ms.length < 10000) :
    wp (f_X2_isInvited γ (ga 1) (Int32.ofNat d) (Int32.ofNat j) G) (fun r => KS γ ga tr et hb (invitedP S d j).1 (ms ++ (invitedP S d j).2) r ∧ Stq hb G r 5 64) := by
  have hd6 := h.nk_ hd
  have ed := (h.dmp0 hj hd6).1 hx
  have kk := (h.kd hj hd6 hx).1
  unfold f_X2_isInvited
  rw [if_pos h.isK, h.course hj, bR_some, if_pos (h.ko hj).1, h.of hj hd6, bR_some, ed.1, if_pos kk, h.how hj hd6 hx, bR_some]
  show wp (if howA γ (hw S j d) = howA γ 0 then _ else _) _
  unfold invitedP
  by_cases c : hw S j d = 0
  · rw [if_pos c, if_pos ((h.howEq hj hd6 hx (Or.inl rfl)).mpr c), if_pos kk, h.ingr hj hd6 hx, bI_some, if_pos h.isK, hgI.2]
    refine wp_bI (wp_mono (h.free hd hgI.1) (fun r hr => ?_))
    obtain ⟨r1, h1, s1⟩ := hr
    rw [if_pos (h1.kd hj hd6 hx).1, h1.amnt hj hd6 hx, bI_some, r1]
    unfold jn
    dsimp only
    have fin : ∀ (z : Int32) (v line : Int32) (kd : Nat), isHow v → (z = 0 ∨ z = 1) → (kd = 1 ∨ kd = 2) → z = (if kd = 1 then 1 else 0) →
        wp (bV (if hK r.2 (ga 1) = 2 then f_X2_becomes γ (ga 1) (Int32.ofNat d) (Int32.ofNat j) (howA γ v) line r.2 else none) fun g29 => gR g29 (ga 1) 11 fun v30 => mO g29 32 fun q31 g32 => bI (if hK g32 (ga 1) = 2 then f_X2_arrival γ (ga 1) (Int32.ofNat d) g32 else none) fun v34 g33 => bV (if q31 ≠ 0 then f_X16_init γ q31 (Int32.ofNat d) (Int32.ofNat j) v34 z g33 else none) fun g35 => bI (if hK g35 v30 = 5 then f_J4_add γ v30 q31 g35 else none) fun v37 g36 => some g36) (fun r => KS γ ga tr et hb (becomesP S j d v line) (ms ++ [mg S kd d j]) r ∧ Stq hb G r 5 64) := by
      intro z v line kd hv hz hkd ez
      refine wp_bV (wp_ifc h1.isK (wp_mono (h1.becomes hj hd hx hv hlen) (fun r2 hr2 => ?_)))
      obtain ⟨h2, s2⟩ := hr2
      obtain ⟨n1, n2, n3, n4⟩ := newObj (c := 32) (n := cInst 32) h2.1
      have hbb := h2.2.1.lt
      have hN := h2.keepAll n2 (n1.toC h2.1 (fun _ _ q => q.elim)) (fun _ q => q.elim)
      rw [gR_ok (okf h2.isK (by decide)), h2.k1.2.2.2.2.1]
      refine wp_mO ?_
      rw [if_pos hN.isK, hN.arrival hd, bI_some, if_pos n4]
      refine h2.post (m := mg S kd d j) (K := fun g32 => some g32) (Kx := fun g => f_X16_init γ (hS r2) (Int32.ofNat d) (Int32.ofNat j) (sg S 0 + sk S d 0) z g) (n := 0) (by decide) hm (wp_mono (X16_init n3 hbb n2 hz) (fun r hr => ⟨(⟨hr.1, hr.2.1, hr.2.2.1, hr.2.2.2.1⟩ : hI r 123 (hS r2) = Int32.ofNat d ∧ hI r 124 (hS r2) = Int32.ofNat j ∧ hI r 125 (hS r2) = sg S 0 + sk S d 0 ∧ hI r 126 (hS r2) = z), hr.2.2.2.2⟩)) (fun r p k2 => Or.inr (Or.inl ⟨hkd, k2, p.1, p.2.1, p.2.2.1, ?_⟩)) (fun r h3 s3 => wp_some ⟨h3, ?_⟩)
      · rw [p.2.2.2]; exact ez
      · refine ((s1.trans h.1 s2).trans h.1 s3).mono (by omega) ?_
        rw [show cInst 32 = 4 from rfl]; omega
    by_cases c2 : freeP S d (ign S j d) < am S j d
    · rw [if_pos c2, if_pos c2]
      exact fin 0 2 4 2 (Or.inr (Or.inr (Or.inl rfl))) (Or.inl rfl) (Or.inr rfl) rfl
    · rw [if_neg c2, if_neg c2]
      exact fin 1 1 3 1 (Or.inr (Or.inl rfl)) (Or.inr rfl) (Or.inl rfl) rfl
  · rw [if_neg c, if_neg (fun q => c ((h.howEq hj hd6 hx (Or.inl rfl)).mp q))]
    exact wp_some ⟨by rw [List.append_nil]; exact h, Stq.refl h.1 5 64⟩
end C4
