section C1
variable {γ : GP} {G : AH} {ga : Nat → Nat} {tr : Nat → List Nat} {et : Nat → Nat → Nat} {S : St} {hb : Nat → Prop} {ms : List Ms}
theorem KS.isK (h : KS γ ga tr et hb S ms G) : hK G (ga 1) = 2 := h.k1.1
theorem KS.nk_ (h : KS γ ga tr et hb S ms G) {d : Nat} (hd : d < nk S) : d < 6 := by have := h.bnd; omega
theorem KS.becomes {j d : Nat} {v line : Int32} (h : KS γ ga tr et hb S ms G) (hj : j < nc S) (hd : d < nk S) (hx : isD S j d) (hv : isHow v) (hlen : (sl S (d + 1)).length ≤ 20) :
    wp (f_X2_becomes γ (ga 1) (Int32.ofNat d) (Int32.ofNat j) (howA γ v) line G) (fun r => KS γ ga tr et hb (becomesP S j d v line) ms r ∧ Stq hb G r 2 53) := by
  have hd6 := h.nk_ hd
  have ed : dmp S ga j d = ga (80 + 6 * j + d) := if_pos hx
  have hwf := h.1
  unfold f_X2_becomes
  rw [if_pos h.isK, h.course hj, bR_some, if_pos (h.ko hj).1, h.of hj hd6, bR_some, ed, gI_ok (okf h.isK (by decide)), h.k1.2.2.2.2.2.1]
  refine wp_bV (wp_ifc (h.kd hj hd6 hx).1 ?_)
  unfold f_X8_becomes
  refine h.pHow hj hd6 hx hv (fun h1 s1 => ?_)
  refine h1.pSince hj hd6 (by unfold isD at hx ⊢; rw [sc_usc, if_neg (by omega)]; exact hx) (fun h2 s2 => wp_some ?_)
  rw [if_pos h2.isK, h2.cook hd, bR_some, gI_ok (okf h2.isK (by decide)), h2.k1.2.2.2.2.2.1]
  refine wp_bV (wp_ifc (h2.kc hd).1 (wp_mono (h2.logC hd hlen) (fun r hr => wp_some ⟨hr.1, ?_⟩)))
  exact ((s1.trans hwf s2).trans hwf hr.2).mono (by omega) (by omega)
theorem KS.settles {j : Nat} {v : Int32} (h : KS γ ga tr et hb S ms G) (hj : j < nc S) (hlen : (sl S 0).length ≤ 20) :
    wp (f_X2_settles γ (ga 1) (Int32.ofNat j) v G) (fun r => KS γ ga tr et hb (settlesP S j v) ms r ∧ Stq hb G r 2 53) := by
  have hwf := h.1
  unfold f_X2_settles
  rw [if_pos h.isK, h.course hj, bR_some, gI_ok (okf h.isK (by decide)), h.k1.2.2.2.2.2.1]
  refine wp_bV (wp_ifc (h.ko hj).1 ?_)
  unfold f_X7_isDecidedAs
  refine h.pPhase hj (fun h1 s1 => h1.pDecided hj (fun h2 s2 => wp_some ?_))
  rw [gR_ok (okf h2.isK (by decide)), h2.k1.2.2.2.1]
  unfold jn
  dsimp only
  have fin : ∀ z : Int32, z = (if v = 2 then 1 else 2) → wp (gI (sI (sI G 88 (ga (60 + j)) v) 90 (ga (60 + j)) (sg S 0)) (ga 1) 12 fun v10 => bV (if hK (sI (sI G 88 (ga (60 + j)) v) 90 (ga (60 + j)) (sg S 0)) (ga 4) = 4 then f_X3_writes γ (ga 4) z (Int32.ofNat j) v10 (sI (sI G 88 (ga (60 + j)) v) 90 (ga (60 + j)) (sg S 0)) else none) fun g11 => some g11) (fun r => KS γ ga tr et hb (settlesP S j v) ms r ∧ Stq hb G r 2 53) := by
    intro z hz
    rw [gI_ok (okf h2.isK (by decide)), h2.k1.2.2.2.2.2.1]
    refine wp_bV (wp_ifc h2.k4.1 (wp_mono (h2.logH hlen) (fun r hr => wp_some ⟨?_, ((s1.trans hwf s2).trans hwf hr.2).mono (by omega) (by omega)⟩)))
    rw [hz] at hr
    exact hr.1
  refine wp_ite (fun e => fin 1 (by rw [if_pos e])) (fun e => fin 2 (by rw [if_neg e]))
theorem newMsg {c : Nat} {q : Nat} {G1 : AH} (hw : Wf G) (hk : hK G1 q = c) (hF : Fr (fun _ => False) G G1) (hq : hS G ≤ q) (f : Nat) (v : Int32) : Fr (fun _ => False) G (sI G1 f q v) := hF.sI (Or.inr hq)
theorem J44_init {q : Nat} (h : q ≠ 0) : f_J44_init γ q G = some G := if_pos h
theorem X15_init {q : Nat} {v1 v2 v3 : Int32} (hk : hK G q = 31) (hb : γ.2 < q) (hw : Wf G) : wp (f_X15_init γ q v1 v2 v3 G) (fun r => hI r 120 q = v1 ∧ hI r 121 q = v2 ∧ hI r 122 q = v3 ∧ Fr (fun a => a = q) G r ∧ Wf r ∧ hS r = hS G ∧ hM r = hM G) := by
  have h0 : q ≠ 0 := by omega
  unfold f_X15_init
  rw [if_pos h0, J44_init h0, bV_some]
  refine (wp_pI ⟨okw hk (by decide) hb, rfl, rfl⟩ (wp_pI ⟨okw (c := 31) hk (by decide) hb, rfl, rfl⟩ (wp_pI ⟨okw (c := 31) hk (by decide) hb, rfl, rfl⟩ (wp_some ?_))))
  refine ⟨?_, ?_, ?_, ((((Fr.refl (fun a => a = q) G).sI (Or.inl rfl)).sI (Or.inl rfl)).sI (Or.inl rfl)), ((hw.sI).sI).sI, rfl, rfl⟩
  · rw [hI_sI, if_neg (fun e => absurd e.1 (by decide)), hI_sI, if_neg (fun e => absurd e.1 (by decide)), hI_sI, if_pos ⟨rfl, rfl⟩]
  · rw [hI_sI, if_neg (fun e => absurd e.1 (by decide)), hI_sI, if_pos ⟨rfl, rfl⟩]
  · rw [hI_sI, if_pos ⟨rfl, rfl⟩]
theorem X13_init {q : Nat} {v1 v2 v3 : Int32} (hk : hK G q = 29) (hb : γ.2 < q) (hw : Wf G) : wp (f_X13_init γ q v1 v2 v3 G) (fun r => hI r 113 q = v1 ∧ hI r 114 q = v2 ∧ hI r 115 q = v3 ∧ Fr (fun a => a = q) G r ∧ Wf r ∧ hS r = hS G ∧ hM r = hM G) := by
  have h0 : q ≠ 0 := by omega
  unfold f_X13_init
  rw [if_pos h0, J44_init h0, bV_some]
  refine (wp_pI ⟨okw hk (by decide) hb, rfl, rfl⟩ (wp_pI ⟨okw (c := 29) hk (by decide) hb, rfl, rfl⟩ (wp_pI ⟨okw (c := 29) hk (by decide) hb, rfl, rfl⟩ (wp_some ?_))))
  refine ⟨?_, ?_, ?_, ((((Fr.refl (fun a => a = q) G).sI (Or.inl rfl)).sI (Or.inl rfl)).sI (Or.inl rfl)), ((hw.sI).sI).sI, rfl, rfl⟩
  · rw [hI_sI, if_neg (fun e => absurd e.1 (by decide)), hI_sI, if_neg (fun e => absurd e.1 (by decide)), hI_sI, if_pos ⟨rfl, rfl⟩]
  · rw [hI_sI, if_neg (fun e => absurd e.1 (by decide)), hI_sI, if_pos ⟨rfl, rfl⟩]
  · rw [hI_sI, if_pos ⟨rfl, rfl⟩]
theorem fits126 {f : Nat} {v : Int32} (hf : f = 119 ∨ f = 126) (hv : v = 0 ∨ v = 1) : narrow (fTy f) (.int v) = .int v ∧ fits (fTy f) (.int v) = true := by
  rcases hf with e | e <;> subst e <;> rcases hv with e | e <;> subst e <;> exact ⟨rfl, rfl⟩
theorem X14_init {q : Nat} {v1 v2 v3 v4 : Int32} (hk : hK G q = 30) (hb : γ.2 < q) (hw : Wf G) (hv : v4 = 0 ∨ v4 = 1) : wp (f_X14_init γ q v1 v2 v3 v4 G) (fun r => hI r 116 q = v1 ∧ hI r 117 q = v2 ∧ hI r 118 q = v3 ∧ hI r 119 q = v4 ∧ Fr (fun a => a = q) G r ∧ Wf r ∧ hS r = hS G ∧ hM r = hM G) := by
  have h0 : q ≠ 0 := by omega
  unfold f_X14_init
  rw [if_pos h0, J44_init h0, bV_some]
  refine (wp_pI ⟨okw hk (by decide) hb, rfl, rfl⟩ (wp_pI ⟨okw (c := 30) hk (by decide) hb, rfl, rfl⟩ (wp_pI ⟨okw (c := 30) hk (by decide) hb, rfl, rfl⟩ (wp_pI ⟨okw (c := 30) hk (by decide) hb, fits126 (Or.inl rfl) hv⟩ (wp_some ?_)))))
  refine ⟨?_, ?_, ?_, ?_, (((((Fr.refl (fun a => a = q) G).sI (Or.inl rfl)).sI (Or.inl rfl)).sI (Or.inl rfl)).sI (Or.inl rfl)), (((hw.sI).sI).sI).sI, rfl, rfl⟩
  · rw [hI_sI, if_neg (fun e => absurd e.1 (by decide)), hI_sI, if_neg (fun e => absurd e.1 (by decide)), hI_sI, if_neg (fun e => absurd e.1 (by decide)), hI_sI, if_pos ⟨rfl, rfl⟩]
  · rw [hI_sI, if_neg (fun e => absurd e.1 (by decide)), hI_sI, if_neg (fun e => absurd e.1 (by decide)), hI_sI, if_pos ⟨rfl, rfl⟩]
  · rw [hI_sI, if_neg (fun e => absurd e.1 (by decide)), hI_sI, if_pos ⟨rfl, rfl⟩]
  · rw [hI_sI, if_pos ⟨rfl, rfl⟩]
theorem X16_init {q : Nat} {v1 v2 v3 v4 : Int32} (hk : hK G q = 32) (hb : γ.2 < q) (hw : Wf G) (hv : v4 = 0 ∨ v4 = 1) : wp (f_X16_init γ q v1 v2 v3 v4 G) (fun r => hI r 123 q = v1 ∧ hI r 124 q = v2 ∧ hI r 125 q = v3 ∧ hI r 126 q = v4 ∧ Fr (fun a => a = q) G r ∧ Wf r ∧ hS r = hS G ∧ hM r = hM G) := by
  have h0 : q ≠ 0 := by omega
  unfold f_X16_init
  rw [if_pos h0, J44_init h0, bV_some]
  refine (wp_pI ⟨okw hk (by decide) hb, rfl, rfl⟩ (wp_pI ⟨okw (c := 32) hk (by decide) hb, rfl, rfl⟩ (wp_pI ⟨okw (c := 32) hk (by decide) hb, rfl, rfl⟩ (wp_pI ⟨okw (c := 32) hk (by decide) hb, fits126 (Or.inr rfl) hv⟩ (wp_some ?_)))))
  refine ⟨?_, ?_, ?_, ?_, (((((Fr.refl (fun a => a = q) G).sI (Or.inl rfl)).sI (Or.inl rfl)).sI (Or.inl rfl)).sI (Or.inl rfl)), (((hw.sI).sI).sI).sI, rfl, rfl⟩
  · rw [hI_sI, if_neg (fun e => absurd e.1 (by decide)), hI_sI, if_neg (fun e => absurd e.1 (by decide)), hI_sI, if_neg (fun e => absurd e.1 (by decide)), hI_sI, if_pos ⟨rfl, rfl⟩]
  · rw [hI_sI, if_neg (fun e => absurd e.1 (by decide)), hI_sI, if_neg (fun e => absurd e.1 (by decide)), hI_sI, if_pos ⟨rfl, rfl⟩]
  · rw [hI_sI, if_neg (fun e => absurd e.1 (by decide)), hI_sI, if_pos ⟨rfl, rfl⟩]
  · rw [hI_sI, if_pos ⟨rfl, rfl⟩]
/-- a message's object made, and the message on its way -/
theorem KS.post {β : Type} {Q : β → Prop} {n c : Nat} {m : Ms} {Kx : AH → Option AH} {K : AH → Option β} (h : KS γ ga tr et hb S ms G) (hn : c ≠ 15 ∧ c ≠ 21 ∧ c ≠ 26) (hlen : ms.length < 10000) {P1 : AH → Prop}
    (hi : wp (Kx (nO G c (cInst c))) (fun r => P1 r ∧ Fr (fun a => a = hS G) (nO G c (cInst c)) r ∧ Wf r ∧ hS r = hS (nO G c (cInst c)) ∧ hM r = hM (nO G c (cInst c))))
    (hm : ∀ r, P1 r → hK r (hS G) = c → MsgF r (hS G) m)
    (k : ∀ r, KS γ ga tr et hb S (ms ++ [m]) r → Stq hb G r 2 (cInst c + 3) → wp (K r) Q) :
    wp (bV (Kx (nO G c (cInst c))) fun g => bI (if hK g (ga 6) = 5 then f_J4_add γ (ga 6) (hS G) g else none) fun _ g1 => K g1) Q := by
  obtain ⟨n1, n2, n3, n4⟩ := newObj (c := c) (n := cInst c) h.1
  refine wp_bV (wp_mono hi (fun r hr => ?_))
  obtain ⟨p1, p2, p3, p4, p5⟩ := hr
  have f1 : Fr (fun _ => False) G r := n1.trans p2 (fun b e => Or.inr (by rw [e]; exact Nat.le_refl _))
  have kr : hK r (hS G) = c := by rw [(p2.2.2.1 (hS G) (Nat.lt_succ_self _)).1]; exact n3
  have s1 : hS r = hS G + 1 := by rw [p4]; exact hS_nO G c (cInst c)
  have m1 : hM r = hM G + cInst c := by rw [p5]; exact hM_nO G c (cInst c)
  have h1 := h.keepAll p3 (f1.toC h.1 (fun _ _ q => q.elim)) (fun _ q => q.elim)
  obtain ⟨own, b⟩ := h1.base
  have k6 := b.1.2.2.2.2.2.2.1
  obtain ⟨ns, L, a1, _⟩ := k6
  refine wp_bI (wp_ifc a1.1 (wp_mono (h.addMsg f1 p3 (Nat.le_refl _) s1 (hm r p1 kr) hlen) (fun r2 hr2 => ?_)))
  obtain ⟨r1, r2', r3, r4, r5⟩ := hr2
  exact k _ r1 ⟨r2', r3, by omega, by omega⟩
theorem KS.asksHost {j i : Nat} (h : KS γ ga tr et hb S ms G) (hj : j < nc S) (hi : i < nk S) (hlen : ms.length < 10000) :
    wp (f_X2_asksHost γ (ga 1) (Int32.ofNat i) (Int32.ofNat j) G) (fun r => KS γ ga tr et hb S (ms ++ [mg S 5 i j]) r ∧ Stq hb G r 2 6) := by
  obtain ⟨n1, n2, n3, n4⟩ := newObj (c := 31) (n := cInst 31) h.1
  have hbb := h.2.1.lt
  unfold f_X2_asksHost
  rw [gR_ok (okf h.isK (by decide)), h.k1.2.2.2.2.1]
  refine wp_mO ?_
  have hN := h.keepAll n2 (n1.toC h.1 (fun _ _ q => q.elim)) (fun _ q => q.elim)
  rw [if_pos hN.isK, hN.arrival hi, bI_some, if_pos n4]
  refine h.post (Kx := fun g => f_X15_init γ (hS G) (Int32.ofNat i) (Int32.ofNat j) (sg S 0 + sk S i 0) g) (n := 0) (by decide) hlen (wp_mono (X15_init n3 hbb n2) (fun r hr => ⟨(⟨hr.1, hr.2.1, hr.2.2.1⟩ : hI r 120 (hS G) = Int32.ofNat i ∧ hI r 121 (hS G) = Int32.ofNat j ∧ hI r 122 (hS G) = sg S 0 + sk S i 0), hr.2.2.2⟩)) (fun r p k => Or.inr (Or.inr (Or.inr ⟨rfl, k, p.1, p.2.1, p.2.2⟩))) (fun r h1 s1 => wp_some ⟨h1, s1⟩)
end C1
