/-! the messages' order and the cooks' order -/
def moreP (S : St) (a b : Nat) : Int32 := if srvP S a - srvP S b = 0 then sk S b 0 - sk S a 0 else srvP S a - srvP S b
def aheadP (S : St) (a b : Nat) : Bool := decide (0 < moreP S a b ∨ (moreP S a b = 0 ∧ a < b))
section C32
variable {γ : GP} {G G1 : AH} {ga : Nat → Nat} {tr : Nat → List Nat} {et : Nat → Nat → Nat} {S : St} {hb : Nat → Prop} {ms : List Ms}
theorem newLL {G0 : AH} (hw : Wf G0) (hlt : γ.2 < hS G0) : wp (f_J4_init γ (hS G0) (nO G0 5 (cInst 5))) (fun r => LL γ r (hS G0) [] [] ∧ Fr (fun _ => False) G0 r ∧ Wf r ∧ hS r = hS G0 + 1 ∧ hM r = hM G0 + 4) := by
  obtain ⟨n1, n2, n3, n4⟩ := newObj (c := 5) (n := cInst 5) hw
  refine wp_mono (LL.made n2 n3 hlt (by rw [hR_nO, if_pos rfl]) (by rw [hR_nO, if_pos rfl])) (fun r hr => ?_)
  obtain ⟨r1, r2, r3, r4, r5⟩ := hr
  exact ⟨r1, n1.trans r2 (fun a e => Or.inr (by rw [e]; exact Nat.le_refl _)), r3, r4, r5⟩
theorem KS.onWay (h : KS γ ga tr et hb S ms G) (hl : ms.length < 100000) : wp (f_X2_onWay γ (ga 1) G) (fun r => r.1 = hS G ∧ KS γ ga tr et hb S ms r.2 ∧ Stq (fun _ => False) G r.2 (2 + 2 * ms.length) (12 + 8 * ms.length) ∧ ∃ ns L, LL γ r.2 r.1 ns L ∧ L.length = ms.length ∧ ∀ p, p < ms.length → MsgF r.2 (nd L p) (ms.getD (nd (orderM ms) p) mz0)) := by
  have hw := h.1
  have hlt := h.2.1.lt
  have h' := h
  obtain ⟨_, _, _, _, own, k⟩ := h'
  obtain ⟨ns, Z, z1, z2, _, _, z5⟩ := k.msgsZ
  have hZl : Z.length = ms.length := by rw [z2, List.length_map]
  unfold f_X2_onWay
  refine wp_mO (wp_bV (wp_ifc (by have := hw.1; omega) (wp_mono (newLL hw hlt) (fun r1 hr1 => ?_))))
  obtain ⟨l1, f1, w1, s1, m1⟩ := hr1
  have toC : ∀ {X : AH}, Fr (fun _ => False) G X → Fc (fun _ => False) G X := fun k => k.toC hw (fun a _ e => e.elim)
  have h1 := h.keepAll w1 (toC f1) (fun _ q => q.elim)
  rw [gR_ok (okf h1.isK (by decide)), h1.k1.2.2.2.2.1]
  have x1 := z1.keepC hw (toC f1) (fun e => e) (fun _ _ e => e)
  refine wp_bR (wp_ifc x1.1 (wp_mono (LL.iterator w1 h1.2.1.lt x1 (by rw [List.length_map]; omega)) (fun r2 hr2 => ?_)))
  obtain ⟨a1, a2, a3, a4, a5, a6, a7⟩ := hr2
  have f2 : Fr (fun _ => False) G r2.2 := f1.trans a4 (fun a e => e.elim)
  have l2 := LL.keep w1 a4 l1 (fun e => e) (fun _ _ e => e)
  rw [a1] at a2 ⊢
  refine wp_mono (wayLoop hw hlt (by omega) z1 (fun z hz => (z5 z hz).2) (Nat.le_refl _) (by omega) FU 0 [] r2.2 (by rw [hZl]; show _ < 4294967296; omega) (Nat.zero_le _) f2 a5 a2 l2 (fun a ha => by cases ha)) (fun r hr => ?_)
  obtain ⟨b1, ⟨nsq, b2⟩, b3, b4, b5, b6⟩ := hr
  have hlen : (Z.map (·.1)).length = Z.length := List.length_map _
  refine ⟨b1, h.keepAll b4 (toC b3) (fun _ q => q.elim), ⟨toC b3, b4, by omega, by omega⟩, nsq, _, by rw [b1]; exact b2, by rw [List.length_map, ordI_len, hZl], fun p hp => ?_⟩
  have e2 : orderM ms = ordI (leA (Z.map (·.2))) Z.length := by
    unfold orderM
    rw [← z2, hZl]
  rw [e2, nd_map (by rw [ordI_len, hZl]; exact hp)]
  have hi : nd (ordI (leA (Z.map (·.2))) Z.length) p < Z.length := ordI_lt _ _ _ (nd_mem (by rw [ordI_len, hZl]; exact hp))
  have zm : MsgF G (nd (Z.map (·.1)) (nd (ordI (leA (Z.map (·.2))) Z.length) p)) ((Z.map (·.2)).getD (nd (ordI (leA (Z.map (·.2))) Z.length) p) mz0) := by
    have := (z5 _ (List.getElem_mem hi)).2
    rw [nd_get (by rw [hlen]; exact hi), List.getElem_map, List.getD_eq_getElem?_getD, List.getElem?_map, List.getElem?_eq_getElem hi]
    exact this
  have e3 : ms.getD (nd (ordI (leA (Z.map (·.2))) Z.length) p) mz0 = (Z.map (·.2)).getD (nd (ordI (leA (Z.map (·.2))) Z.length) p) mz0 := congrArg (fun l => l.getD (nd (ordI (leA (Z.map (·.2))) Z.length) p) mz0) z2
  rw [e3]
  exact zm.keep hw (toC b3) (fun e => e)
theorem KS.dist {i : Nat} (h : KS γ ga tr et hb S ms G) (hi : i < nk S) : f_X6_distance γ (ga (10 + i)) G = some (sk S i 0, G) := by
  unfold f_X6_distance
  rw [gI_ok (okf (h.kc hi).1 (by decide)), (h.kc hi).2.1]
theorem KS.isAhead {a b : Nat} (h : KS γ ga tr et hb S ms G) (ha : a < nk S) (hb2 : b < nk S) : f_X2_isAhead γ (ga 1) (Int32.ofNat a) (Int32.ofNat b) G = some ((if aheadP S a b = true then 1 else 0), G) := by
  have hn := h.bnd
  unfold f_X2_isAhead jn
  rw [if_pos h.isK, h.cook ha, bR_some, if_pos (h.kc ha).1, h.srv ha, bI_some, if_pos h.isK, h.cook hb2, bR_some, if_pos (h.kc hb2).1, h.srv hb2, bI_some]
  dsimp only
  rw [if_pos h.isK, h.cook hb2, bR_some, if_pos (h.kc hb2).1, h.dist hb2, bI_some, if_pos h.isK, h.cook ha, bR_some, if_pos (h.kc ha).1, h.dist ha, bI_some]
  have key : ∀ z : Int32, z = moreP S a b → (if (0 : Int32) < z then rtN .boolean (1 : Int32) G else if z = 0 then (if Int32.ofNat b ≤ Int32.ofNat a then rtN .boolean (0 : Int32) G else rtN .boolean (1 : Int32) G) else rtN .boolean (0 : Int32) G) = some ((if aheadP S a b = true then 1 else 0), G) := by
    intro z hz
    subst hz
    by_cases c1 : 0 < moreP S a b
    · rw [if_pos c1, if_pos (show aheadP S a b = true from decide_eq_true (Or.inl c1))]; rfl
    · rw [if_neg c1]
      by_cases c2 : moreP S a b = 0
      · rw [if_pos c2]
        by_cases c3 : a < b
        · rw [if_neg (by rw [i_le (by omega) (by omega)]; omega), if_pos (show aheadP S a b = true from decide_eq_true (Or.inr ⟨c2, c3⟩))]; rfl
        · rw [if_pos ((i_le (by omega) (by omega)).mpr (by omega)), if_neg (fun e => by
            rcases of_decide_eq_true e with q | q
            · exact c1 q
            · exact c3 q.2)]; rfl
      · rw [if_neg c2, if_neg (fun e => by
          rcases of_decide_eq_true e with q | q
          · exact c1 q
          · exact c2 q.1)]; rfl
  by_cases c : srvP S a - srvP S b = 0
  · rw [if_pos c]
    exact key _ (by unfold moreP; rw [if_pos c])
  · rw [if_neg c]
    exact key _ (by unfold moreP; rw [if_neg c])
theorem Cn.bxF {d : Nat} (h : Cn γ G) (hd : d < 6) : hK G (bx γ G d) = 12 ∧ hI G 61 (bx γ G d) = Int32.ofNat d ∧ bx γ G d ≤ γ.2 := by
  have k := h.cache.2.2 (d + 128) (by omega)
  refine ⟨k.1, ?_, k.2.2⟩
  show hI G 61 (hQ G (γ.1 9) (d + 128)) = _
  rw [k.2.1, show (128 : Int32) = Int32.ofNat 128 from rfl, i_sub (by omega), Nat.add_sub_cancel]
theorem bx_keep {P : Nat → Prop} {d : Nat} (hc : Cn γ G) (f : Fr P G G1) (hp : ∀ a, P a → γ.2 < a) : bx γ G1 d = bx γ G d := by
  have l := hc.b9.1
  have := (f.2.2.2 (γ.1 9) (Nat.lt_of_le_of_lt l hc.lt) (fun e => by have := hp _ e; omega)).2.2.2.1
  unfold bx
  rw [this]
/-- how many of those there are ahead -/
theorem rankIn {G0 Gs : AH} (h0 : KS γ ga tr et hb S ms G0) {q it2 c0 : Nat} {nsq As : List Nat} {K : Int32 → AH → Option (Nat × AH)} {Q : Nat × AH → Prop} (hws : Wf Gs) (hF : Fr (fun _ => False) G0 Gs) (hLq : LL γ Gs q nsq (As.map (bx γ G0))) (hA9 : As.length ≤ 6) (hA : ∀ a ∈ As, a < nk S) (hc0 : c0 < nk S) (hk2 : hK Gs it2 = 13) (hit : hS G0 ≤ it2) (n : Nat) :
    ∀ (p c : Nat) (G : AH), As.length - p < n → p ≤ As.length → Fr (fun a => a = it2) Gs G → Wf G → hS G = hS Gs → hM G = hM Gs → LIt γ G it2 q nsq p →
    (∀ r, Fr (fun a => a = it2) Gs r → Wf r → hS r = hS Gs → hM r = hM Gs → wp (K (Int32.ofNat (c + ((As.drop p).filter (fun a => aheadP S a c0)).length)) r) Q) →
    wp (f_X2_ranked_L31 γ (ga 1) q (Int32.ofNat c0) it2 K n (Int32.ofNat c) G) Q := by
  have hbn := h0.bnd
  have hll : (As.map (bx γ G0)).length = As.length := List.length_map _
  induction n with
  | zero => intro p c G hk; exact absurd hk (Nat.not_lt_zero _)
  | succ n ih =>
    intro p c G hn hp f w es em t kk
    have nx : q ≠ it2 := fun e => by have := hLq.1; rw [e, hk2] at this; exact absurd this (by decide)
    have nn : ∀ a ∈ nsq, ¬ a = it2 := fun a ha e => by
      obtain ⟨i, hi, e2⟩ := List.getElem_of_mem ha
      have k := (hLq.2.2.2.2.2.2.2 i hi).1
      rw [nd_get hi, e2, e, hk2] at k
      exact absurd k (by decide)
    have hL := LL.keep hws f hLq nx nn
    unfold f_X2_ranked_L31
    rw [dsp13 t.1, t.hasNext hL (by rw [hll]; exact hp) (by rw [hll]; omega), bI_some]
    by_cases ce : p = (As.map (bx γ G0)).length
    · rw [if_pos ce, if_pos rfl]
      have k2 := kk G f w es em
      rw [List.drop_of_length_le (by rw [hll] at ce; omega)] at k2
      exact k2
    · rw [if_neg ce, if_neg (by decide), dsp13 t.1]
      have hp2 : p < As.length := by rw [hll] at ce; omega
      refine wp_bR (wp_mono (LIt.next w hL t (by rw [hll]; exact hp2) (by rw [hll]; omega)) (fun r hr => ?_))
      obtain ⟨r1, r2, r3, r4, r5, r6, r7⟩ := hr
      have f2 : Fr (fun a => a = it2) Gs r.2 := f.trans r4 (fun a e => Or.inl e)
      have F0 : Fr (fun _ => False) G0 r.2 := hF.trans f2 (fun a e => Or.inr (by rw [e]; exact hit))
      have hk := h0.keepAll r5 (F0.toC h0.1 (fun _ _ e => e.elim)) (fun _ e => e.elim)
      have en : nd (As.map (bx γ G0)) p = bx γ G0 (nd As p) := nd_map hp2
      have hm : nd As p < nk S := hA _ (nd_mem hp2)
      have bk : bx γ r.2 (nd As p) = bx γ G0 (nd As p) := bx_keep h0.2.1 F0 (fun _ e => e.elim)
      have bf := hk.2.1.bxF (d := nd As p) (by omega)
      rw [bk] at bf
      rw [r1, en]
      refine wp_gC (Or.inr (okc bf.1 (by decide))) (wp_bI (wp_ifc bf.1 ?_))
      unfold f_J21_intValue
      refine wp_gI (okf bf.1 (by decide)) (wp_some ?_)
      rw [bf.2.1, if_pos hk.isK, hk.isAhead hm hc0, bI_some]
      have ed : As.drop p = nd As p :: As.drop (p + 1) := by
        rw [List.drop_eq_getElem_cons hp2, nd_get hp2]
      rw [ed, List.filter_cons] at kk
      by_cases cl : aheadP S (nd As p) c0 = true
      · rw [if_pos cl, if_neg (by decide), i_one]
        rw [if_pos cl, List.length_cons] at kk
        refine ih (p + 1) (c + 1) r.2 (by omega) (by omega) f2 r5 (by rw [r6]; exact es) (by rw [r7]; exact em) r2 (fun r8 a1 a2 a3 a4 => ?_)
        have := kk r8 a1 a2 a3 a4
        rw [show c + 1 + ((As.drop (p + 1)).filter (fun a => aheadP S a c0)).length = c + (((As.drop (p + 1)).filter (fun a => aheadP S a c0)).length + 1) from by omega]
        exact this
      · rw [if_neg cl, if_pos rfl, Int32.add_zero]
        rw [if_neg cl] at kk
        exact ih (p + 1) c r.2 (by omega) (by omega) f2 r5 (by rw [r6]; exact es) (by rw [r7]; exact em) r2 kk
theorem rankLoop {G0 : AH} (h0 : KS γ ga tr et hb S ms G0) {q : Nat} (hq : hS G0 ≤ q) (n : Nat) :
    ∀ (k : Nat) (nsq : List Nat) (G : AH), nk S - k < n → k ≤ nk S → Fr (fun _ => False) G0 G → Wf G → LL γ G q nsq ((ordI (aheadP S) k).map (bx γ G0)) → (∀ a ∈ nsq, hS G0 ≤ a) →
    wp (f_X2_ranked_L10 γ (ga 1) q n (Int32.ofNat k) G) (fun r => r.1 = q ∧ (∃ nsq1, LL γ r.2 q nsq1 ((ordI (aheadP S) (nk S)).map (bx γ G0))) ∧ Fr (fun _ => False) G0 r.2 ∧ Wf r.2 ∧ hS r.2 ≤ hS G + 2 * (nk S - k) ∧ hM r.2 ≤ hM G + 8 * (nk S - k)) := by
  have hbn := h0.bnd
  have hlt := h0.2.1.lt
  induction n with
  | zero => intro k nsq G hk; exact absurd hk (Nat.not_lt_zero _)
  | succ n ih =>
    intro k nsq G hn hk f w hL hnq
    have hKs := h0.keepAll w (f.toC h0.1 (fun _ _ e => e.elim)) (fun _ e => e.elim)
    unfold f_X2_ranked_L10
    rw [gR_ok (okf hKs.isK (by decide)), hKs.k1.2.1, hKs.nkF, bI_some]
    by_cases c : nk S ≤ k
    · rw [if_pos ((i_le (by omega) (by omega)).mpr c)]
      have ck : k = nk S := by omega
      rw [ck] at hL
      exact wp_some ⟨rfl, ⟨nsq, hL⟩, f, w, by show hS G ≤ _; omega, by show hM G ≤ _; omega⟩
    · rw [if_neg (fun e => c ((i_le (by omega) (by omega)).mp e))]
      have ol : ((ordI (aheadP S) k).map (bx γ G0)).length = k := by rw [List.length_map, ordI_len]
      have hlt1 : γ.2 < hS G := Nat.lt_of_lt_of_le hlt f.1
      refine wp_bR (wp_ifc hL.1 (wp_mono (LL.iterator w hlt1 hL (by rw [ol]; omega)) (fun r8 hr8 => ?_)))
      obtain ⟨b1, b2, b3, b4, b5, b6, b7⟩ := hr8
      have f8 : Fr (fun _ => False) G0 r8.2 := f.trans b4 (fun a e => e.elim)
      have hk8 : hK r8.2 (hS G) = 13 := by rw [← b1]; exact b2.1
      rw [b1] at b2 ⊢
      refine rankIn h0 b5 f8 b3 (by rw [ordI_len]; omega) (fun a ha => by have := ordI_lt _ _ a ha; omega) (show k < nk S by omega) hk8 f.1 FU 0 0 r8.2 (by rw [ordI_len]; show _ < 4294967296; omega) (Nat.zero_le _) (Fr.refl _ _) b5 rfl rfl b2 (fun r9 d1 d2 d3 d4 => ?_)
      have f9 : Fr (fun _ => False) G0 r9 := f8.trans d1 (fun a e => Or.inr (by rw [e]; exact f.1))
      have hK9 := h0.keepAll d2 (f9.toC h0.1 (fun _ _ e => e.elim)) (fun _ e => e.elim)
      have q5' := b3.1
      have nq9 : q ≠ hS G := fun e => by rw [e, hk8] at q5'; exact absurd q5' (by decide)
      have nn9 : ∀ a ∈ nsq, ¬ a = hS G := fun a ha e => by
        obtain ⟨i, hi, e2⟩ := List.getElem_of_mem ha
        have kk := (b3.2.2.2.2.2.2.2 i hi).1
        rw [nd_get hi, e2, e, hk8] at kk
        exact absurd kk (by decide)
      have hL9 := LL.keep b5 d1 b3 nq9 nn9
      rw [List.drop_zero, Nat.zero_add]
      have cle : ((ordI (aheadP S) k).filter (fun a => aheadP S a k)).length ≤ k := by
        have := List.length_filter_le (fun a => aheadP S a k) (ordI (aheadP S) k)
        rw [ordI_len] at this
        exact this
      have hlt9 : γ.2 < hS r9 := Nat.lt_of_lt_of_le hlt f9.1
      rw [hK9.2.1.valueOf (show k < 128 by omega), bR_some]
      have ebx : bx γ r9 k = bx γ G0 k := bx_keep h0.2.1 f9 (fun _ e => e.elim)
      rw [ebx]
      refine wp_bV (wp_ifc hL9.1 (wp_mono (LL.insert d2 hlt9 hL9 (by rw [ol]; exact cle) (by rw [ol]; omega)) (fun r10 hr10 => ?_)))
      obtain ⟨g1, g2, g3, g4, g5⟩ := hr10
      have f10 : Fr (fun _ => False) G0 r10 := f9.trans g2 (fun a e => Or.inr (by
        rcases e with e | e
        · rw [e]; exact hq
        · exact hnq a e))
      rw [i_one]
      refine wp_mono (ih (k + 1) _ r10 (by omega) (by omega) f10 g3 (by
        have e3 : ordI (aheadP S) (k + 1) = ins ((ordI (aheadP S) k).filter (fun q => aheadP S q k)).length k (ordI (aheadP S) k) := rfl
        rw [e3, ins_map]
        exact g1) (fun a ha => ?_)) (fun r11 hr11 => ?_)
      · rcases ins_mem.mp ha with e | e
        · rw [e]; exact f9.1
        · exact hnq a e
      · obtain ⟨y1, y2, y3, y4, y5, y6⟩ := hr11
        exact ⟨y1, y2, y3, y4, by omega, by omega⟩
theorem KS.ranked (h : KS γ ga tr et hb S ms G) : wp (f_X2_ranked γ (ga 1) G) (fun r => r.1 = hS G ∧ KS γ ga tr et hb S ms r.2 ∧ Stq (fun _ => False) G r.2 13 52 ∧ ∃ ns L, LL γ r.2 r.1 ns L ∧ L.length = nk S ∧ ∀ p, p < nk S → hK r.2 (nd L p) = 12 ∧ hI r.2 61 (nd L p) = Int32.ofNat (nd (ordI (aheadP S) (nk S)) p)) := by
  have hw := h.1
  have hlt := h.2.1.lt
  have hbn := h.bnd
  unfold f_X2_ranked
  refine wp_mO (wp_bV (wp_ifc (by have := hw.1; omega) (wp_mono (newLL hw hlt) (fun r1 hr1 => ?_))))
  obtain ⟨l1, f1, w1, s1, m1⟩ := hr1
  refine wp_mono (rankLoop h (Nat.le_refl _) FU 0 [] r1 (by show _ < 4294967296; omega) (Nat.zero_le _) f1 w1 l1 (fun a ha => by cases ha)) (fun r hr => ?_)
  obtain ⟨b1, ⟨nsq, b2⟩, b3, b4, b5, b6⟩ := hr
  have FC := b3.toC hw (fun _ _ e => e.elim)
  have hKs := h.keepAll b4 FC (fun _ q => q.elim)
  refine ⟨b1, hKs, ⟨FC, b4, by omega, by omega⟩, nsq, _, by rw [b1]; exact b2, by rw [List.length_map, ordI_len], fun p hp => ?_⟩
  rw [nd_map (by rw [ordI_len]; exact hp)]
  have hi : nd (ordI (aheadP S) (nk S)) p < nk S := ordI_lt _ _ _ (nd_mem (by rw [ordI_len]; exact hp))
  have bf := hKs.2.1.bxF (d := nd (ordI (aheadP S) (nk S)) p) (by omega)
  rw [bx_keep h.2.1 b3 (fun _ e => e.elim)] at bf
  exact ⟨bf.1, bf.2.1⟩
end C32
