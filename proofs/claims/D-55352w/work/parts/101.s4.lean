/-! Strings out of builders, their signs -/
section S4
variable {γ : GP} {G G1 : AH} {x cd C a : Nat} {l : List Nat}
theorem BytR.copy {b n cd : Nat} (h : BytR G a cd l) (hcd : cd ≤ 1) (hk : hK G1 b = 102) (hn : l.length * (cd + 1) ≤ n) (hs : ∀ i, i < n → hA G1 b i = hA G a i) : BytR G1 b cd l := by
  refine ⟨hk, fun i hi => ⟨fun q => ⟨((h.2 i hi).1 q).1, ?_⟩, fun q => ⟨((h.2 i hi).2 q).1, ?_, ?_⟩⟩⟩
  · subst q
    rw [hs i (by omega)]; exact ((h.2 i hi).1 rfl).2
  · subst q
    rw [hs _ (by omega)]; exact ((h.2 i hi).2 rfl).2.1
  · subst q
    rw [hs _ (by omega)]; exact ((h.2 i hi).2 rfl).2.2
/-- pairs of bytes become bytes, as far as that goes -/
theorem comprLoop {m : Nat} {G0 : AH} (hb : BytR G0 a 1 l) (hm : γ.2 < m) (ham : a ≠ m) (hl : hL G0 a ≤ 700) (hll : 2 * l.length ≤ hL G0 a) (hw0 : Wf G0) (n : Nat) : ∀ (i : Nat) (G : AH), l.length - i < n → i ≤ l.length → hK G m = 102 → hL G m = l.length → Wf G → Fr (fun b => b = m) G0 G → hS G = hS G0 → hM G = hM G0 → BytR G m 0 (l.take i) →
    wp (f_J8_compress_2_L10 γ a m (Int32.ofNat l.length) n (Int32.ofNat i) (Int32.ofNat i) (Int32.ofNat i) G) (fun r => ∃ k, r.1 = Int32.ofNat k ∧ k ≤ l.length ∧ (k < l.length → 255 < nd l k) ∧ BytR r.2 m 0 (l.take k) ∧ Wf r.2 ∧ Fr (fun b => b = m) G0 r.2 ∧ hS r.2 = hS G0 ∧ hM r.2 = hM G0) := by
  induction n with
  | zero => intro i G h; exact absurd h (Nat.not_lt_zero _)
  | succ n ih =>
    intro i G hn hi km lm hw hF hs hms hB
    unfold f_J8_compress_2_L10
    by_cases c : l.length ≤ i
    · rw [if_pos ((i_le (by omega) (by omega)).mpr c)]
      have e : i = l.length := by omega
      rw [e] at hB
      exact wp_some ⟨l.length, rfl, Nat.le_refl _, fun q => absurd q (Nat.lt_irrefl _), hB, hw, hF, hs, hms⟩
    · rw [if_neg (fun e => c ((i_le (by omega) (by omega)).mp e))]
      have la := hw0.k hb.1 (by decide)
      have b := (hb.2 i (by omega)).2 rfl
      have s := hF.2.2.2 a la ham
      have ka : hK G a = 102 := by rw [(hF.2.2.1 a la).1]; exact hb.1
      have lA : hL G a = hL G0 a := (hF.2.2.1 a la).2
      rw [J8_getChar (n := hL G0 a) ka lA (by omega) (by omega) b.1 (by rw [s.2.2.1]; exact b.2.1) (by rw [s.2.2.1]; exact b.2.2), bI_s]
      refine wp_ite (fun e => ?_) (fun e => ?_)
      · rw [show (255 : Int32) = Int32.ofNat 255 from rfl, i_le (by omega) (by decide)] at e
        refine wp_pA (okxw km lm (by omega) (by omega) hm) ?_
        rw [i_nat (by omega), show vN (aTy 102) (Int32.ofNat (nd l i)).toInt8.toInt32 = b8 (nd l i) from vN_b8 _, i_one]
        refine ih (i + 1) _ (by omega) (by omega) km lm hw.sA (hF.sA (Or.inl rfl)) hs hms ?_
        have et : l.take (i + 1) = l.take i ++ [nd l i] := by
          rw [List.take_add_one, List.getElem?_eq_getElem (by omega), nd_get (by omega)]; rfl
        rw [et]
        have el : (l.take i).length = i := by rw [List.length_take]; omega
        refine hB.snoc (n := 0) (by decide) (show nd l i < if (0 : Nat) = 0 then 256 else 65536 by rw [if_pos rfl]; omega) km (fun j hj => ?_) (fun _ => ?_) (fun q => absurd q (by decide))
        · rw [el] at hj
          rw [hA_sA, if_neg (by omega)]
        · rw [el, hA_sA, if_pos ⟨rfl, rfl⟩]
      · rw [show (255 : Int32) = Int32.ofNat 255 from rfl, i_le (by omega) (by decide)] at e
        exact wp_some ⟨i, rfl, hi, fun _ => by omega, hB, hw, hF, hs, hms⟩
theorem rtN_b {G : AH} {v : Int32} (h : v = 0 ∨ v = 1) : rtN .byte v G = some (v, G) := by
  rcases h with e | e <;> rw [e] <;> rfl
theorem compr (hB : BytR G a 1 l) (hw : Wf G) (hc : Cn γ G) (hl : hL G a ≤ 700) (hll : 2 * l.length ≤ hL G a) (h110 : l.length ≤ 110) :
    wp (f_J8_compress γ a (0 : Int32) (Int32.ofNat l.length) G) (fun r => ∃ cd1, cd1 ≤ 1 ∧ hS G ≤ r.1 ∧ BytR r.2 r.1 cd1 l ∧ hL r.2 r.1 = l.length * (cd1 + 1) ∧ (cd1 = 1 → 0 < l.length) ∧ Fr (fun _ => False) G r.2 ∧ Wf r.2 ∧ hS r.2 ≤ hS G + 2 ∧ hM r.2 ≤ hM G + 400) := by
  have hlt := hc.lt
  have la := hw.k hB.1 (by decide)
  have z : (0 : Int32) = Int32.ofNat 0 := rfl
  unfold f_J8_compress
  refine wp_mA ⟨i_neg (by omega), by rw [i_nat (by omega)]; omega⟩ ?_
  rw [i_nat (by omega)]
  obtain ⟨n1, n2, n3, n4⟩ := newArr (n := l.length) hw
  have bA := hB.keep hw (n1.toC hw (fun _ _ q => q.elim)) (fun q => q)
  have lA : hL (nA G 102 l.length) a = hL G a := by rw [hL_nA, if_neg (by omega)]
  have main : wp (f_J8_compress_2 γ a (0 : Int32) (hS G) (0 : Int32) (Int32.ofNat l.length) (nA G 102 l.length)) (fun r => ∃ k, r.1 = Int32.ofNat k ∧ k ≤ l.length ∧ (k < l.length → 255 < nd l k) ∧ BytR r.2 (hS G) 0 (l.take k) ∧ Wf r.2 ∧ Fr (fun b => b = hS G) (nA G 102 l.length) r.2 ∧ hS r.2 = hS (nA G 102 l.length) ∧ hM r.2 = hM (nA G 102 l.length)) := by
    unfold f_J8_compress_2
    rw [chkOff bA.1 lA (by omega) (by omega), bV_s, z]
    exact comprLoop (G0 := nA G 102 l.length) bA hlt (by omega) (by omega) (by omega) n2 FU 0 _ (by show _ < 4294967296; omega) (Nat.zero_le _) n3 n4 n2 (Fr.refl _ _) rfl rfl ⟨n3, fun i hi => absurd hi (by rw [List.take_zero]; exact Nat.not_lt_zero _)⟩
  refine wp_bI (wp_mono main (fun r hr => ?_))
  obtain ⟨k, r1, r2, r3, r4, r5, r6, r7, r8⟩ := hr
  have f1 : Fr (fun _ => False) G r.2 := n1.trans r6 (fun b e => Or.inr (by omega))
  have s7 : hS r.2 = hS G + 1 := r7
  have s8 : hM r.2 = hM G + l.length := r8
  rw [r1]
  refine wp_ite (fun e => ?_) (fun e => ?_)
  · rw [i_eq (by omega) (by omega)] at e
    rw [e, List.take_length] at r4
    refine wp_some ⟨0, by decide, Nat.le_refl _, r4, ?_, fun q => absurd q (by decide), f1, r5, by show hS r.2 ≤ _; omega, by show hM r.2 ≤ _; omega⟩
    rw [(r6.2.2.1 (hS G) (Nat.lt_succ_self _)).2]
    omega
  · rw [i_eq (by omega) (by omega)] at e
    unfold f_J8_newBytesLength
    rw [z, i_add, Nat.zero_add, ← z, if_pos (show (0 : Int32) ≤ Int32.ofNat l.length by rw [z, i_le (by decide) (by omega)]; omega), if_pos (show Int32.ofNat l.length < (1073741823 : Int32) by rw [show (1073741823 : Int32) = Int32.ofNat 1073741823 from rfl, i_lt (by omega) (by decide)]; omega), bI_s, shl1, show (0 : Int32) <<< ((1 : Int32) &&& 31) = 0 from by decide]
    have bR2 := hB.keep hw (f1.toC hw (fun _ _ q => q.elim)) (fun q => q)
    have lR : hL r.2 a = hL G a := (f1.2.2.1 a la).2
    have hc2 := hc.keep (f1.toC hw (fun _ _ q => q.elim)) (fun _ q => q.elim)
    refine wp_bR (wp_mono (J17_range (n := 2 * l.length) r5 hc2 bR2.1 (by omega) (by omega)) (fun r9 hr9 => ?_))
    obtain ⟨p1, p2, p3, p4, p5, p6, p7, p8⟩ := hr9
    have b9 : BytR r9.2 (hS r.2) 1 l := bR2.copy (by decide) p2 (by omega) p4
    rw [p1, b9.get (by omega) p3 (by omega) (by omega), bI_s, if_pos (show (255 : Int32) < Int32.ofNat (nd l k) by
      rw [show (255 : Int32) = Int32.ofNat 255 from rfl, i_lt (by decide) (by have := ((b9.2 k (by omega)).2 rfl).1; omega)]
      exact r3 (by omega))]
    exact wp_some ⟨1, by decide, by show hS G ≤ hS r.2; omega, b9, by show hL r9.2 (hS r.2) = _; omega, fun _ => by omega, f1.trans p5 (fun _ q => q.elim), p6, by show hS r9.2 ≤ _; omega, by show hM r9.2 ≤ _; omega⟩
theorem Sbx.toStr (h : Sbx γ G x cd C a l) (hw : Wf G) (hc : Cn γ G) (h110 : l.length ≤ 110) :
    wp (f_J6_toString γ x G) (fun r => r.1 = hS G ∧ ∃ cd1 a1, StrX γ r.2 (hS G) cd1 a1 l ∧ (cd = 0 → cd1 = 0) ∧ hS G < a1 ∧ (hI r.2 28 (hS G) = 0 ∧ hI r.2 29 (hS G) = 0) ∧ Fr (fun _ => False) G r.2 ∧ Wf r.2 ∧ hS r.2 ≤ hS G + 3 ∧ hM r.2 ≤ hM G + 800) := by
  obtain ⟨n1, n2, n3, n4⟩ := newObj (c := 7) (n := cInst 7) hw
  have hlt := hc.lt
  have c7 : cInst 7 ≤ 10 := by decide
  have h' := h.keep hw (n1.toC hw (fun _ _ q => q.elim)) (fun q => q) (fun q => q)
  have hq := hc.keep (n1.toC hw (fun _ _ q => q.elim)) (fun _ q => q.elim)
  have z : (0 : Int32) = Int32.ofNat 0 := rfl
  have i28 : hI (nO G 7 (cInst 7)) 28 (hS G) = 0 ∧ hI (nO G 7 (cInst 7)) 29 (hS G) = 0 := ⟨by rw [hI_nO, if_pos rfl], by rw [hI_nO, if_pos rfl]⟩
  have sq : hS (nO G 7 (cInst 7)) = hS G + 1 := rfl
  have mq : hM (nO G 7 (cInst 7)) = hM G + cInst 7 := rfl
  unfold f_J6_toString
  refine wp_mO (wp_bV ?_)
  rw [if_pos n4]
  unfold f_J7_init
  refine wp_bV ?_
  rw [if_pos n4]
  generalize nO G 7 (cInst 7) = g at *
  obtain ⟨k1, k2, k3, k4, k5, k6, k7, k8, k9, k10, k11, k12⟩ := id h'
  have hCc : C * (cd + 1) ≤ 600 := Nat.le_trans (Nat.mul_le_mul (by omega) (by omega : cd + 1 ≤ 2)) (by omega : 300 * 2 ≤ 600)
  have hLc : l.length * (cd + 1) ≤ C * (cd + 1) := Nat.mul_le_mul_right _ k9
  unfold f_J7_init_2
  rw [if_pos n4, if_pos k1]
  unfold f_J5_getValue
  rw [gR_ok (okf k1 (by decide)), k7, bR_s, if_pos k1, h'.len, bI_s, if_pos k1, h'.isLatin, bI_s]
  by_cases c0 : cd = 0
  · subst c0
    rw [if_pos rfl, if_neg (show ¬ ((1 : Int32) = 0) by decide)]
    refine wp_pI ⟨okw n3 (by decide) hlt, rfl, rfl⟩ ?_
    have hc3 : Cn γ (sI g 27 (hS G) 0) := hq.keep ((Fr.refl (fun b => b = hS G) g).sI (Or.inl rfl) |>.toC n2 (fun b _ e => by rw [e, n3]; decide)) (fun b e => by omega)
    refine wp_bR (wp_mono (J17_range (n := l.length) (G := sI g 27 (hS G) 0) n2.sI hc3 k12.1 (by show l.length ≤ hL g a; omega) (by show hL g a ≤ _; omega)) (fun r hr => ?_))
    obtain ⟨p1, p2, p3, p4, p5, p6, p7, p8⟩ := hr
    have kq : hK r.2 (hS G) = 7 := by rw [(p5.2.2.1 (hS G) (by show hS G < hS g; omega)).1]; exact n3
    have sS := p5.2.2.2 (hS G) (by show hS G < hS g; omega) (fun q => q)
    have b9 : BytR r.2 (hS g) 0 l := BytR.copy (G := sI g 27 (hS G) 0) (n := l.length) k12 (by decide) p2 (by omega) p4
    have p7' : hS r.2 = hS g + 1 := p7
    have p8' : hM r.2 = hM g + l.length := p8
    refine wp_pR (okw kq (by decide) hlt) (wp_some (wp_some (wp_some ⟨rfl, 0, hS g, ⟨kq, by decide, ?_, ?_, ?_, by omega, b9⟩, fun _ => rfl, by omega, ⟨?_, ?_⟩, ?_, p6.sR, by show hS r.2 ≤ _; omega, by show hM r.2 ≤ _; omega⟩)))
    · show hI r.2 27 (hS G) = _
      rw [sS.1, hI_sI, if_pos ⟨rfl, rfl⟩]; rfl
    · rw [p1]; exact rs
    · show hL r.2 (hS g) = _
      rw [show hS g = hS (sI g 27 (hS G) 0) from rfl, p3]; omega
    · show hI r.2 28 (hS G) = _
      rw [sS.1, hI_sI, if_neg (by omega)]; exact i28.1
    · show hI r.2 29 (hS G) = _
      rw [sS.1, hI_sI, if_neg (by omega)]; exact i28.2
    · exact (((n1.sI (Or.inr (Nat.le_refl _))).trans p5 (fun _ q => q.elim)).sR (Or.inr (Nat.le_refl _)))
  · have e1 : cd = 1 := by omega
    subst e1
    rw [if_neg (show ¬ ((1 : Nat) = 0) by decide), if_pos rfl]
    refine wp_jn ?_
    rw [if_neg (by decide)]
    refine wp_gI (okf k1 (by decide)) (wp_ite (fun e => ?_) (fun e => ?_))
    · refine wp_pI ⟨okw n3 (by decide) hlt, rfl, rfl⟩ ?_
      rw [shl1]
      have hc3 : Cn γ (sI g 27 (hS G) 1) := hq.keep ((Fr.refl (fun b => b = hS G) g).sI (Or.inl rfl) |>.toC n2 (fun b _ e => by rw [e, n3]; decide)) (fun b e => by omega)
      refine wp_bR (wp_mono (J17_range (n := 2 * l.length) (G := sI g 27 (hS G) 1) n2.sI hc3 k12.1 (by show 2 * l.length ≤ hL g a; omega) (by show hL g a ≤ _; omega)) (fun r hr => ?_))
      obtain ⟨p1, p2, p3, p4, p5, p6, p7, p8⟩ := hr
      have kq : hK r.2 (hS G) = 7 := by rw [(p5.2.2.1 (hS G) (by show hS G < hS g; omega)).1]; exact n3
      have sS := p5.2.2.2 (hS G) (by show hS G < hS g; omega) (fun q => q)
      have b9 : BytR r.2 (hS g) 1 l := BytR.copy (G := sI g 27 (hS G) 1) (n := 2 * l.length) k12 (by decide) p2 (by omega) p4
      have p7' : hS r.2 = hS g + 1 := p7
      have p8' : hM r.2 = hM g + 2 * l.length := p8
      refine wp_pR (okw kq (by decide) hlt) (wp_some (wp_some (wp_some ⟨rfl, 1, hS g, ⟨kq, by decide, ?_, ?_, ?_, by omega, b9⟩, fun q => absurd q (by decide), by omega, ⟨?_, ?_⟩, ?_, p6.sR, by show hS r.2 ≤ _; omega, by show hM r.2 ≤ _; omega⟩)))
      · show hI r.2 27 (hS G) = _
        rw [sS.1, hI_sI, if_pos ⟨rfl, rfl⟩]; rfl
      · rw [p1]; exact rs
      · show hL r.2 (hS g) = _
        rw [show hS g = hS (sI g 27 (hS G) 1) from rfl, p3]; omega
      · show hI r.2 28 (hS G) = _
        rw [sS.1, hI_sI, if_neg (by omega)]; exact i28.1
      · show hI r.2 29 (hS G) = _
        rw [sS.1, hI_sI, if_neg (by omega)]; exact i28.2
      · exact (((n1.sI (Or.inr (Nat.le_refl _))).trans p5 (fun _ q => q.elim)).sR (Or.inr (Nat.le_refl _)))
    · refine wp_bR (wp_mono (compr k12 n2 hq (by omega) (by omega) h110) (fun r hr => ?_))
      obtain ⟨cd1, p1, p2, p3, p4, p5, p6, p7, p8, p9⟩ := hr
      have kq : hK r.2 (hS G) = 7 := by rw [(p6.2.2.1 (hS G) (by omega)).1]; exact n3
      have sS := p6.2.2.2 (hS G) (by omega) (fun q => q)
      refine wp_pR (okw kq (by decide) hlt) (wp_gR (okf (c := 7) kq (by decide)) ?_)
      rw [rs]
      unfold f_J8_coderFromArrayLen
      refine wp_bI (wp_gL (by show 100 ≤ hK r.2 r.1; rw [p3.1]; decide) ?_)
      have cde : ((((Int32.ofNat l.length - Int32.ofNat (hL (sR r.2 26 (hS G) r.1) r.1))).toUInt32 >>> (((31 : Int32)).toUInt32 &&& Int32.toUInt32 31)).toInt32).toInt8.toInt32 = Int32.ofNat cd1 := by
        show ((((Int32.ofNat l.length - Int32.ofNat (hL r.2 r.1))).toUInt32 >>> (((31 : Int32)).toUInt32 &&& Int32.toUInt32 31)).toInt32).toInt8.toInt32 = Int32.ofNat cd1
        rw [p4]
        rcases Nat.lt_or_ge cd1 1 with q | q
        · rw [show cd1 = 0 by omega, show l.length * (0 + 1) = l.length by omega, coder0]; rfl
        · have e1 : cd1 = 1 := by omega
          rw [e1, show l.length * (1 + 1) = 2 * l.length by omega]
          exact coder1 ⟨l.length, by omega⟩ (p5 e1)
      rw [cde, rtN_b (by rcases Nat.lt_or_ge cd1 1 with q | q; exact Or.inl (by rw [show cd1 = 0 by omega]; rfl); exact Or.inr (by rw [show cd1 = 1 by omega]; rfl))]
      refine wp_some (wp_pI ⟨okw (c := 7) kq (by decide) hlt, ?_, ?_⟩ (wp_some (wp_some (wp_some ⟨rfl, cd1, r.1, ⟨kq, p1, ?_, ?_, p4, by omega, p3⟩, fun q => absurd q (by decide), by omega, ⟨?_, ?_⟩, ?_, (p7.sR).sI, by show hS r.2 ≤ _; omega, by show hM r.2 ≤ _; omega⟩))))
      · rcases Nat.lt_or_ge cd1 1 with q | q
        · rw [show cd1 = 0 by omega]; rfl
        · rw [show cd1 = 1 by omega]; rfl
      · rcases Nat.lt_or_ge cd1 1 with q | q
        · rw [show cd1 = 0 by omega]; rfl
        · rw [show cd1 = 1 by omega]; rfl
      · rw [hI_sI, if_pos ⟨rfl, rfl⟩]
      · exact rs
      · rw [hI_sI, if_neg (by omega)]
        show hI r.2 28 (hS G) = _
        rw [sS.1]; exact i28.1
      · rw [hI_sI, if_neg (by omega)]
        show hI r.2 29 (hS G) = _
        rw [sS.1]; exact i28.2
      · exact ((n1.trans p6 (fun _ q => q.elim)).sR (Or.inr (Nat.le_refl _))).sI (Or.inr (Nat.le_refl _))
theorem StrX.len (h : StrX γ G x cd a l) : f_J7_length γ x G = some (Int32.ofNat l.length, G) := by
  obtain ⟨h1, h2, h3, h4, h5, h6, h7⟩ := h
  have hLc : l.length * (cd + 1) ≤ 2000 := Nat.le_trans (Nat.mul_le_mul h6 (by omega : cd + 1 ≤ 2)) (by omega : 1000 * 2 ≤ 2000)
  unfold f_J7_length f_J7_coder
  rw [gR_ok (okf h1 (by decide)), h4, gL_ok (by rw [h7.1]; decide), h5, if_pos h1, if_neg (by decide), gI_ok (okf h1 (by decide)), h3, rtN_b (by rcases Nat.lt_or_ge cd 1 with q | q; exact Or.inl (by rw [show cd = 0 by omega]; rfl); exact Or.inr (by rw [show cd = 1 by omega]; rfl)), bI_s, shrc h2 (by omega)]
theorem StrX.isLatin (h : StrX γ G x cd a l) : f_J7_isLatin1 γ x G = some ((if cd = 0 then 1 else 0), G) := by
  obtain ⟨h1, h2, h3, _⟩ := h
  unfold f_J7_isLatin1
  rw [if_neg (by decide), gI_ok (okf h1 (by decide)), h3]
  by_cases c : cd = 0
  · rw [if_pos (by rw [c]; rfl), if_pos c]; rfl
  · rw [if_neg (by rw [show cd = 1 by omega]; decide), if_neg c]; rfl
theorem StrX.charAt {i : Nat} (h : StrX γ G x cd a l) (hi : i < l.length) : f_J7_charAt γ x (Int32.ofNat i) G = some (Int32.ofNat (nd l i), G) := by
  have h' := h
  obtain ⟨h1, h2, h3, h4, h5, h6, h7⟩ := h'
  unfold f_J7_charAt
  rw [if_pos h1, h.isLatin, bI_s]
  by_cases c : cd = 0
  · subst c
    have b := (h7.2 i hi).1 rfl
    rw [if_pos rfl, if_neg (show ¬ ((1 : Int32) = 0) by decide), gR_ok (okf h1 (by decide)), h4]
    unfold f_J19_charAt
    rw [gL_ok (by rw [h7.1]; decide), h5, show l.length * (0 + 1) = l.length by omega, J19_chk hi (by omega), bV_s, gA_ok (okx h7.1 h5 (by omega) (by omega)), i_nat (by omega), b.2, b8_and, Nat.mod_eq_of_lt b.1, i_mod16 (by omega), Nat.mod_eq_of_lt (by omega), rtN_char (by omega), bI_s, rtN_char (by omega)]
  · have e1 : cd = 1 := by omega
    subst e1
    have b := (h7.2 i hi).2 rfl
    rw [if_neg (show ¬ ((1 : Nat) = 0) by decide), if_pos rfl, gR_ok (okf h1 (by decide)), h4]
    unfold f_J8_charAt
    rw [J8_chk h7.1 h5 (by omega) (by omega), bV_s, h7.get hi h5 (by omega) (by omega), bI_s, rtN_char b.1, bI_s, rtN_char b.1]
theorem StrX.lt (h : StrX γ G x cd a l) {i : Nat} (hi : i < l.length) : nd l i < 65536 := by
  obtain ⟨h1, h2, h3, h4, h5, h6, h7⟩ := h
  rcases Nat.lt_or_ge cd 1 with q | q
  · have := ((h7.2 i hi).1 (by omega)).1
    omega
  · exact ((h7.2 i hi).2 (by omega)).1
end S4
