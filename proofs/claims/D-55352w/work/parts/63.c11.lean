theorem filter_add {α : Type} (p : α → Bool) (l : List α) : (l.filter p).length + (l.filter (fun z => !p z)).length = l.length := by
  induction l with
  | nil => rfl
  | cons a l ih =>
    rw [List.filter_cons, List.filter_cons]
    cases h : p a with
    | true =>
      rw [if_pos rfl, if_neg (by decide), List.length_cons, List.length_cons]; omega
    | false =>
      rw [if_neg (by decide), if_pos (show (!false) = true from rfl), List.length_cons, List.length_cons]; omega
section C11
variable {γ : GP} {G G1 : AH} {ga : Nat → Nat} {tr : Nat → List Nat} {et : Nat → Nat → Nat} {S : St} {hb : Nat → Prop} {ms : List Ms}
theorem newAL (hw : Wf G) (hc : Cn γ G) : wp (if hS G ≠ 0 then f_J2_init γ (hS G) (nO G 3 (cInst 3)) else none) (fun r => AL γ r (hS G) [] ∧ hR r 15 (hS G) = γ.1 0 ∧ Fr (fun _ => False) G r ∧ Wf r ∧ hS r = hS G + 1 ∧ hM r = hM G + 3) := by
  obtain ⟨n1, n2, n3, n4⟩ := newObj (c := 3) (n := cInst 3) hw
  rw [if_pos n4]
  have e0 := hc.emp
  have l0 := hw.k e0.1 (by decide)
  refine wp_mono (AL.made n2 n3 hc.lt (by rw [hI_nO, if_pos rfl]) ⟨by rw [(n1.2.2.1 _ l0).1]; exact e0.1, by rw [(n1.2.2.1 _ l0).2]; exact e0.2⟩) (fun r hr => ?_)
  obtain ⟨r1, r2, r3, r4, r5, r6⟩ := hr
  exact ⟨r1, r2, n1.trans r3 (fun b e => Or.inr (by rw [e]; exact Nat.le_refl _)), r4, r5, r6⟩
/-- the messages' list, with its messages -/
theorem Kt.msgsZ {own : Nat → Nat} (k : Kt γ G own ga tr et hb S ms) : ∃ (ns : List Nat) (Z : List (Nat × Ms)), LL γ G (ga 6) ns (Z.map (·.1)) ∧ ms = Z.map (·.2) ∧ own (ga 6) = 6 ∧ (∀ a ∈ ns, own a = 6) ∧ ∀ z ∈ Z, own z.1 = 9 ∧ MsgF G z.1 z.2 := by
  obtain ⟨ns, L, a1, a2, a3, a4, a5⟩ := k.2.2.2.2.2.2.1
  have e1 : (L.zip ms).map (·.1) = L := List.map_fst_zip (by omega)
  have e2 : (L.zip ms).map (·.2) = ms := List.map_snd_zip (by omega)
  refine ⟨ns, L.zip ms, by rw [e1]; exact a1, e2.symm, a2, a3, fun z hz => ?_⟩
  obtain ⟨i, hi, e⟩ := List.getElem_of_mem hz
  have hl : i < L.length ∧ i < ms.length := by
    rw [List.length_zip] at hi
    omega
  have ez : z = (L[i], ms[i]) := by rw [← e, List.getElem_zip]
  have m := a5 i hl.2
  rw [nd_get hl.1, List.getD_eq_getElem?_getD, List.getElem?_eq_getElem hl.2] at m
  rw [ez]
  exact ⟨m.1, m.2⟩
theorem KS.allArrive {H : St → List Ms → List Ms → Prop} (hH : ∀ S m rest ms, H S (m :: rest) ms → Ok S ∧ Vm S m ∧ ms.length + 6 < 10000 ∧ H (arrivesP S m).1 rest (ms ++ (arrivesP S m).2))
    (h : KS γ ga tr et hb S ms G) (p : H S (ms.filter (isNow S)) (ms.filter (fun m => !isNow S m))) (hl : ms.length < 90000) :
    wp (f_X2_allArrive γ (ga 1) G) (fun r => KS γ ga tr et hb (arrAll (ms.filter (isNow S)) (S, ms.filter (fun m => !isNow S m))).1 (arrAll (ms.filter (isNow S)) (S, ms.filter (fun m => !isNow S m))).2 r ∧ Stq hb G r (5 + 2 * ms.length + 16 * (ms.filter (isNow S)).length) (95 + 12 * ms.length + 100 * (ms.filter (isNow S)).length)) := by
  have h00 := h
  obtain ⟨hw, hc, h3, h4, own, k⟩ := h
  obtain ⟨ns, Z, b1, b2, b3, b4, b5⟩ := k.msgsZ
  have hlt := hc.lt
  have l6 := hw.k b1.1 (by decide)
  have kns : ∀ a ∈ ns, a < hS G ∧ hK G a = 19 := fun a ha => by
    obtain ⟨i, hi, e⟩ := List.getElem_of_mem ha
    have k := (b1.2.2.2.2.2.2.2 i hi).1
    rw [nd_get hi, e] at k
    exact ⟨hw.k k (by decide), k⟩
  unfold f_X2_allArrive
  refine wp_mO (wp_bV (wp_mono (newAL hw hc) (fun g1 hr => ?_)))
  obtain ⟨p1, p2, p3, p4, p5, p6⟩ := hr
  have fc1 := p3.toC hw (fun _ _ q => q.elim)
  have c1 : Cn γ g1 := hc.keep fc1 (fun _ q => q.elim)
  refine wp_mO (wp_bV (wp_mono (newAL p4 c1) (fun g2 hr => ?_)))
  obtain ⟨q1, q2, q3, q4, q5, q6⟩ := hr
  have f2 : Fr (fun _ => False) G g2 := p3.trans q3 (fun _ e => e.elim)
  have fc2 := f2.toC hw (fun _ _ q => q.elim)
  have hK2 := h00.keepAll q4 fc2 (fun _ q => q.elim)
  have a1 := AL.keep p4 q3 p1 (fun q => q) (fun _ q => q)
  have ll2 : LL γ g2 (ga 6) ns (Z.map (·.1)) := b1.keepC hw fc2 (fun q => q) (fun _ _ q => q)
  have hZl : Z.length = ms.length := by rw [b2, List.length_map]
  rw [gR_ok (okf hK2.isK (by decide)), hK2.k1.2.2.2.2.1]
  refine wp_bR (wp_ifc ll2.1 (wp_mono (LL.iterator q4 (by omega) ll2 (by rw [List.length_map]; omega)) (fun r hr => ?_)))
  obtain ⟨t1, t2, t3, t4, t5, t6, t7⟩ := hr
  have f3 : Fr (fun _ => False) G r.2 := f2.trans t4 (fun _ e => e.elim)
  have aq1 := AL.keep q4 t4 a1.1 (fun q => q) (fun _ q => q)
  have aq4 := AL.keep q4 t4 q1 (fun q => q) (fun _ q => q)
  have e15a : hR r.2 15 (hS G) = γ.1 0 := by rw [aq1.2, a1.2, p2]
  have e15b : hR r.2 15 (hS g1) = γ.1 0 := by rw [aq4.2, q2]
  have le0 : γ.1 0 ≤ γ.2 := hc.le (by decide)
  have l0 : hL r.2 (γ.1 0) = 0 := (hc.keep (f3.toC hw (fun _ _ q => q.elim)) (fun _ q => q.elim)).emp.2
  have sp : Spl γ G (hS G) (hS g1) r.1 (ga 6) ns 0 [] [] r.2 := ⟨f3.mono (fun _ _ q => q.elim), t5, t2, aq1.1, aq4.1, Or.inl (by rw [e15a]; exact le0), Or.inl (by rw [e15b]; exact le0), fun _ => by rw [e15a]; exact le0⟩
  refine KS.splitLoop h00 (Z := Z) (by omega) b1 (fun z hz => (b5 z hz).2) (Nat.le_refl _) (by omega) (by omega) (by rw [t1]; omega) FU 0 [] [] r.2 (by show Z.length - 0 < 4294967296; omega) (Nat.zero_le _) (Nat.zero_le _) (Nat.zero_le _) sp (fun g3 s3 cS cM => ?_)
  rw [List.drop_zero, List.nil_append, List.nil_append] at s3
  obtain ⟨v1, v2, v3, v4, v5, v6, v7, v8⟩ := s3
  have fcv : Fc (fun a => hS G ≤ a) G g3 := v1.toC hw (fun a l q => by omega)
  have k3 : Kt γ g3 own ga tr et hb S ms := k.keepAll hw hc v2 fcv (fun a q => ⟨by omega, k.1.2.1 a q⟩)
  have c3 : Cn γ g3 := hc.keep fcv (fun a q => by omega)
  have hK3 : KS γ ga tr et hb S ms g3 := ⟨v2, c3, h3, fun a q => h4 a (Nat.le_trans v1.1 q), own, k3⟩
  have ll3 : LL γ g3 (ga 6) ns (Z.map (·.1)) := b1.keepC hw fcv (fun q => by omega) (fun a ha q => by have := (kns a ha).1; omega)
  have ek6 : hR g3 11 (ga 1) = ga 6 := hK3.k1.2.2.2.2.1
  rw [gR_ok (okf hK3.isK (by decide)), ek6]
  refine wp_bV (wp_ifc ll3.1 (wp_mono (LL.clear v2 ll3 (by rw [List.length_map]; omega)) (fun g4 hr => ?_)))
  obtain ⟨w1, w2, w3, w4, w5⟩ := hr
  have kLL : ∀ a, LLp (ga 6) ns a → hK g3 a = 5 ∨ hK g3 a = 19 := fun a q => by
    rcases q with e | e
    · rw [e]; exact Or.inl ll3.1
    · rw [fcv.kind (kns a e).1]; exact Or.inr (kns a e).2
  have nLL : ∀ a, hK g3 a ≠ 5 → hK g3 a ≠ 19 → ¬ LLp (ga 6) ns a := fun a x y q => by
    rcases kLL a q with e | e
    · exact x e
    · exact y e
  have l1 := v2.k hK3.isK (by decide)
  have s1 := w2.2.2.2 (ga 1) l1 (nLL _ (by rw [hK3.isK]; decide) (by rw [hK3.isK]; decide))
  have k14 : hK g4 (ga 1) = 2 := by rw [(w2.2.2.1 _ l1).1]; exact hK3.isK
  rw [gR_ok (okf k14 (by decide)), s1.2.1 11, ek6]
  have b4q := AL.keep v2 w2 v5 (nLL _ (by rw [v5.1]; decide) (by rw [v5.1]; decide)) (fun _ => nLL _ (by rw [v5.2.2.2.1]; decide) (by rw [v5.2.2.2.1]; decide))
  have b1q := AL.keep v2 w2 v4 (nLL _ (by rw [v4.1]; decide) (by rw [v4.1]; decide)) (fun _ => nLL _ (by rw [v4.2.2.2.1]; decide) (by rw [v4.2.2.2.1]; decide))
  have hfl1 : ((Z.filter (fun z => !isNow S z.2)).map (·.1)).length ≤ Z.length := by rw [List.length_map]; exact List.length_filter_le _ _
  have hfl2 : ((Z.filter (fun z => isNow S z.2)).map (·.1)).length ≤ Z.length := by rw [List.length_map]; exact List.length_filter_le _ _
  refine wp_bI (wp_ifc w1.1 (wp_mono (LL.addAll (M := (Z.filter (fun z => !isNow S z.2)).map (·.1)) w3 (by have := c3.lt; omega) w1 (by show 0 + _ < _; omega) ?_) (fun r5 hr5 => ?_)))
  · rw [if_pos b4q.1.1]
    refine wp_mono (AL.toArray w3 (by have := c3.lt; omega) b4q.1 (by omega)) (fun r hr => ⟨hr.2.1, hr.2.2.1, hr.2.2.2.1, hr.2.2.2.2.1, hr.2.2.2.2.2.1, hr.2.2.2.2.2.2.1, hr.2.2.2.2.2.2.2⟩)
  obtain ⟨ns2, x1, x2, x3, x4, x5, x6⟩ := hr5
  rw [List.nil_append] at x1
  have hms2 : ms.filter (fun m => !isNow S m) = (Z.filter (fun z => !isNow S z.2)).map (·.2) := by
    rw [b2, List.filter_map]; rfl
  have hms1 : ms.filter (isNow S) = (Z.filter (fun z => isNow S z.2)).map (·.2) := by
    rw [b2, List.filter_map]; rfl
  have fr35 : Fr (LLp (ga 6) ns) g3 r5.2 := w2.trans x3 (fun a q => by
    rcases q with e | e
    · exact Or.inl (Or.inl e)
    · cases e)
  have lpo : ∀ a, LLp (ga 6) ns a → own a = 6 := fun a q => by
    rcases q with e | e
    · rw [e]; exact b3
    · exact b4 a e
  have fc35 : Fc (fun b => own b = 6) g3 r5.2 := (fr35.toC v2 (fun a _ q => by rcases kLL a q with e | e <;> rw [e] <;> decide)).mono (fun a _ q => lpo a q)
  have base : ∀ a, own a = 6 → hb a := fun a e => k3.1.2.2.1 a (by rw [e]; decide) (by rw [e]; decide)
  have fh35 : Fc hb g3 r5.2 := fc35.mono (fun a _ q => base a q)
  have c5 : Cn γ r5.2 := c3.keep fh35 h3
  have k5 : Kt γ r5.2 (ext own (hK r5.2) (hS g3) (hS r5.2) 0 6) ga tr et hb S (ms.filter (fun m => !isNow S m)) := by
    refine k3.upd v2 c3 x4 (T := 6) ⟨by omega, by omega, by omega, by omega, fun j2 hj2 => by omega⟩ fc35 (fun a ha => ext_old ha) (fun a ha => ext_out ha fr35.1) (fun a ha e => by
        have := ext_9 ha (by decide) e
        omega) (fun a ha y1 y2 => ext_k ha y1 y2) (Or.inl (fun a q => h4 a (Nat.le_trans v1.1 q))) rfl rfl
      (fun q => by omega) (fun q => ⟨rfl, rfl⟩) (fun q => by omega) (fun q => rfl) (fun q => by omega) (fun q => rfl) (fun _ => ?_) (fun q => absurd rfl q)
      (fun i2 hi2 q => by omega) (fun i2 hi2 q => ⟨rfl, rfl⟩) (fun i2 hi2 q => by omega) (fun i2 hi2 q => rfl) (fun i2 hi2 b2 hb2 q => by omega) (fun i2 hi2 b2 hb2 q y2 hy2 => rfl)
      (fun j2 hj2 q => by omega) (fun j2 hj2 q => ⟨rfl, rfl, rfl, rfl⟩) (fun j2 hj2 d2 hd2 => rfl) (fun j2 hj2 d2 hd2 _ q => by omega) (fun j2 hj2 d2 hd2 q => ⟨rfl, rfl, rfl⟩)
    have l63 := v2.k ll3.1 (by decide)
    refine ⟨ns2, _, x1, by rw [ext_old l63]; exact b3, fun a ha => ?_, by rw [hms2, List.length_map, List.length_map], fun i hi => ?_⟩
    · rcases x2 a ha with e | e
      · cases e
      · obtain ⟨i, hi, e2⟩ := List.getElem_of_mem ha
        have kk := (x1.2.2.2.2.2.2.2 i hi).1
        rw [nd_get hi, e2] at kk
        exact ext_new (by omega) (x4.k kk (by decide)) (by omega) (by rw [kk]; decide)
    · rw [hms2, List.length_map] at hi
      have hz := List.getElem_mem hi
      have hz2 := (List.mem_filter.mp hz).1
      obtain ⟨o9, mf⟩ := b5 _ hz2
      have lz : ((Z.filter (fun z => !isNow S z.2))[i]).1 < hS G := by
        have := mf.k
        exact (hw.2 _ (by omega)).2
      rw [hms2, nd_get (by rw [List.length_map]; exact hi), List.getElem_map, List.getD_eq_getElem?_getD, List.getElem?_map, List.getElem?_eq_getElem hi]
      refine ⟨by rw [ext_old (by have := v1.1; omega)]; exact o9, (mf.keep hw fcv (by omega)).keep v2 fc35 (fun e => by rw [o9] at e; exact absurd e (by decide))⟩
  have d1q := AL.keep w3 x3 b1q.1 (fun q => by
      rcases q with e | e
      · have := b1q.1.1; rw [e, w1.1] at this; exact absurd this (by decide)
      · cases e) (fun _ q => by
      rcases q with e | e
      · have := b1q.1.2.2.2.1; rw [e, w1.1] at this; exact absurd this (by decide)
      · cases e)
  have ear : hR r5.2 15 (hS G) = hR g3 15 (hS G) := by rw [d1q.2, b1q.2]
  have lG3 : hS G < hS g3 := by
    have := v2.k v4.1 (by decide)
    exact this
  have oq1 : ext own (hK r5.2) (hS g3) (hS r5.2) 0 6 (hS G) = 0 := by rw [ext_old lG3]; exact k.1.2.1 _ (Nat.le_refl _)
  have larr : hR g3 15 (hS G) < hS g3 := v2.k v4.2.2.2.1 (by decide)
  have oar : ext own (hK r5.2) (hS g3) (hS r5.2) 0 6 (hR g3 15 (hS G)) = 0 := by
    rw [ext_old larr]
    rcases v6 with e | e
    · exact k.1.1 _ e
    · exact k.1.2.1 _ e
  have hS5 : hS g3 ≤ hS r5.2 := fr35.1
  have hK5 : KS γ ga tr et (fun b => hb b ∧ ¬ (b = hS G ∨ b = hR g3 15 (hS G))) S (ms.filter (fun m => !isNow S m)) r5.2 := by
    refine ⟨x4, c5, fun a q => h3 a q.1, fun a q => ⟨h4 a (by omega), fun e => by omega⟩, _, ⟨k5.1.1, k5.1.2.1, fun a q q9 => ⟨k5.1.2.2.1 a q q9, fun e => ?_⟩, k5.1.2.2.2⟩, k5.2⟩
    rcases e with e | e
    · rw [e] at q; exact q oq1
    · rw [e] at q; exact q oar
  refine wp_bR (wp_ifc d1q.1.1 (wp_mono (AL.iterator x4 c5.lt d1q.1) (fun r6 hr6 => ?_)))
  obtain ⟨y1, y2, y3, y4, y5, y6⟩ := hr6
  have fc6 := y3.toC x4 (fun _ _ q => q.elim)
  have hK6 := hK5.guard y4 fc6 (fun _ q => q.elim) (it := hS r5.2) (Nat.le_refl _) (by omega)
  have mfz : ∀ z ∈ Z.filter (fun z => isNow S z.2), MsgF r6.2 z.1 z.2 := fun z hz => by
    have hz2 := (List.mem_filter.mp hz).1
    obtain ⟨o9, mf⟩ := b5 _ hz2
    have lz : z.1 < hS G := by
      have := mf.k
      exact (hw.2 _ (by omega)).2
    exact ((mf.keep hw fcv (by omega)).keep v2 fc35 (fun e => by rw [o9] at e; exact absurd e (by decide))).keep x4 fc6 (fun q => q)
  have hK7 := hK6.guard9s (X := fun a => ∃ z ∈ Z.filter (fun z => isNow S z.2), z.1 = a) (fun a q => by
    obtain ⟨z, hz, e⟩ := q
    rw [← e]; exact (mfz z hz).k)
  have al7 := AL.keep x4 y3 d1q.1 (fun q => q) (fun _ q => q)
  have e157 : hR r6.2 15 (hS G) = hR g3 15 (hS G) := by rw [al7.2, ear]
  have p' : H S (((Z.filter (fun z => isNow S z.2)).drop 0).map (·.2)) (ms.filter (fun m => !isNow S m)) := by
    rw [List.drop_zero, ← hms1]; exact p
  have hr5l := x4.k d1q.1.1 (by decide)
  rw [y1] at y2
  have hZf : (Z.filter (fun z => isNow S z.2)).length ≤ Z.length := List.length_filter_le _ _
  rw [y1]
  refine wp_mono (KS.arriveLoop hH (Z := Z.filter (fun z => isNow S z.2)) (q := hS G) (it := hS r5.2) (by omega) (fun q => q.1.1.2 (Or.inl rfl)) (fun q => q.1.2 rfl) (by omega) FU 0 S _ r6.2 (by show _ < 4294967296; omega) (Nat.zero_le _) hK7 al7.1 (by rw [e157]; exact fun q => q.1.1.2 (Or.inr rfl)) (by rw [e157]; omega) y2 (fun z hz => ⟨mfz z hz, fun q => q.2 ⟨z, hz, rfl⟩⟩) p') (fun r8 hr8 => ?_)
  obtain ⟨z1, z2⟩ := hr8
  rw [List.drop_zero, ← hms1] at z1
  refine ⟨z1.mono (fun a q => q.1.1.1) h3, ?_⟩
  have capz : capA r.2 (hS G) + capA r.2 (hS g1) = 0 := by
    unfold capA
    rw [e15a, e15b, l0]
  have cap1 : capA g3 (hS G) ≤ 2 * ((Z.filter (fun z => isNow S z.2)).map (·.1)).length + 10 := v4.2.2.2.2.2.1
  have cap4 : capA g3 (hS g1) ≤ 2 * ((Z.filter (fun z => !isNow S z.2)).map (·.1)).length + 10 := v5.2.2.2.2.2.1
  have hsum : (Z.filter (fun z => isNow S z.2)).length + (Z.filter (fun z => !isNow S z.2)).length = Z.length := by
    exact filter_add _ _
  have hnl : (ms.filter (isNow S)).length = (Z.filter (fun z => isNow S z.2)).length := by rw [hms1, List.length_map]
  rw [List.length_map] at cap1 cap4
  rw [List.length_map] at x5 x6
  have st0 : Stq hb G g3 (3 + Z.length) (91 + 8 * Z.length) := ⟨fcv.mono (fun a l q => by omega), v2, by omega, by omega⟩
  have st1 : Stq hb g3 r5.2 (1 + (Z.filter (fun z => !isNow S z.2)).length) (4 * (Z.filter (fun z => !isNow S z.2)).length) := ⟨fh35, x4, by omega, by omega⟩
  have st2 : Stq hb r5.2 r6.2 1 4 := ⟨fc6.mono (fun _ _ q => q.elim), y4, by omega, by omega⟩
  have st3 : Stq hb r6.2 r8 (16 * ((Z.filter (fun z => isNow S z.2)).length - 0)) (100 * ((Z.filter (fun z => isNow S z.2)).length - 0)) := z2.wide (fun a l q => by
    rcases q with q | q
    · exact q.1.1.1
    · rw [q]; exact h4 _ (by have := v1.1; omega))
  refine (((st0.trans hw st1).trans hw st2).trans hw st3).mono ?_ ?_
  · rw [hnl]; omega
  · rw [hnl]; omega
end C11
