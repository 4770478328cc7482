/-! builders -/
theorem i_char {c : Nat} (h : c < 65536) : (Int32.ofNat c).toUInt32.toUInt16.toUInt32.toInt32 = Int32.ofNat c := by
  apply Int32.toBitVec_inj.mp
  apply BitVec.eq_of_toNat_eq
  show (UInt32.toBitVec (UInt16.toUInt32 _)).toNat = _
  rw [UInt32.toNat_toBitVec, UInt16.toNat_toUInt32, UInt32.toNat_toUInt16]
  show (BitVec.ofNat 32 c).toNat % 2 ^ 16 = (BitVec.ofNat 32 c).toNat
  rw [BitVec.toNat_ofNat]
  omega
theorem i_or (a b : Nat) : Int32.ofNat a ||| Int32.ofNat b = Int32.ofNat (a ||| b) := by
  apply Int32.toBitVec_inj.mp
  rw [Int32.toBitVec_or, i_bv, i_bv, i_bv]
  apply BitVec.eq_of_toNat_eq
  rw [BitVec.toNat_or, BitVec.toNat_ofNat, BitVec.toNat_ofNat, BitVec.toNat_ofNat, Nat.or_mod_two_pow]
theorem coder1 : ∀ n : Fin 112, 0 < n.val → ((((Int32.ofNat n.val - Int32.ofNat (2 * n.val))).toUInt32 >>> (((31 : Int32)).toUInt32 &&& Int32.toUInt32 31)).toInt32).toInt8.toInt32 = 1 := by decide
theorem coder0 (v : Int32) : (((v - v).toUInt32 >>> (((31 : Int32)).toUInt32 &&& Int32.toUInt32 31)).toInt32).toInt8.toInt32 = 0 := by
  rw [Int32.sub_self]; decide
theorem i_sub_le {a b : Nat} (ha : a < 2147483648) (hb : b < 2147483648) : Int32.ofNat a - Int32.ofNat b ≤ 0 ↔ a ≤ b := by
  by_cases c : b ≤ a
  · rw [i_sub c, show (0 : Int32) = Int32.ofNat 0 from rfl, i_le (by omega) (by decide)]
    omega
  · rw [Int32.le_iff_toInt_le, Int32.toInt_sub, i_toInt ha, i_toInt hb, Int.bmod_eq_of_le (by omega) (by omega)]
    show _ ≤ (0 : Int) ↔ _
    omega
theorem rtN_char {G : AH} {c : Nat} (h : c < 65536) : rtN .char (Int32.ofNat c) G = some (Int32.ofNat c, G) := by
  unfold rtN
  refine if_pos ?_
  show Value.int (Int32.ofNat c).toUInt32.toUInt16.toUInt32.toInt32 = _
  rw [i_char h]
theorem rtN_z {G : AH} {v : Int32} (h : v = 0 ∨ v = 1) : rtN .boolean v G = some (v, G) := by
  rcases h with e | e <;> rw [e] <;> rfl
theorem gL_ok {β : Type} {G : AH} {a : Nat} {K : Int32 → Option β} (h : 100 ≤ hK G a) : gL G a K = K (Int32.ofNat (hL G a)) := if_pos h
theorem pA_ok {β : Type} {γ : GP} {G : AH} {kd a : Nat} {i v : Int32} {K : AH → Option β} (h : okXW γ G a kd i) : pA γ G kd a i v K = K (sA G a i.toNatClampNeg (vN (aTy kd) v)) := if_pos h
section S2
variable {γ : GP} {G G1 : AH} {x cd C a : Nat} {l : List Nat}
theorem okxw {kd n i : Nat} (h : hK G a = kd) (hl : hL G a = n) (hi : i < n) (hn : n < 2147483648) (hb : γ.2 < a) : okXW γ G a kd (Int32.ofNat i) := ⟨okx h hl hi hn, hb⟩
theorem J8_putChar {i c n : Nat} (hk : hK G a = 102) (hb : γ.2 < a) (hl : hL G a = n) (hi : 2 * i + 1 < n) (hn : n < 10000) (hc : c < 65536) :
    f_J8_putChar γ a (Int32.ofNat i) (Int32.ofNat c) G = some (sA (sA G a (2 * i) (b8 c)) a (2 * i + 1) (b8 (c / 256))) := by
  unfold f_J8_putChar jn
  dsimp only
  rw [if_neg (by decide), shl1]
  rw [pA_ok (okxw hk hl (by omega) (by omega) hb), i_nat (by omega), put_lo hc, show (1 : Int32) = Int32.ofNat 1 from rfl, i_add]
  rw [pA_ok (okxw (γ := γ) (G := sA G a (2 * i) (b8 c)) (show hK G a = 102 from hk) (show hL G a = n from hl) (by omega) (by omega) hb), i_nat (by omega), put_hi hc]
theorem J8_getChar {i c n : Nat} (hk : hK G a = 102) (hl : hL G a = n) (hi : 2 * i + 1 < n) (hn : n < 10000) (hc : c < 65536) (h1 : hA G a (2 * i) = b8 c) (h2 : hA G a (2 * i + 1) = b8 (c / 256)) :
    f_J8_getChar γ a (Int32.ofNat i) G = some (Int32.ofNat c, G) := by
  unfold f_J8_getChar jn
  dsimp only
  rw [if_neg (by decide), shl1]
  rw [gA_ok (okx hk hl (by omega) (by omega)), i_nat (by omega), show (1 : Int32) = Int32.ofNat 1 from rfl, i_add]
  rw [gA_ok (okx hk hl (by omega) (by omega)), i_nat (by omega), h1, h2, hi_lo hc, rtN_char hc]
theorem BytR.get {i n : Nat} (h : BytR G a 1 l) (hi : i < l.length) (hl : hL G a = n) (h2 : 2 * l.length ≤ n) (hn : n < 10000) : f_J8_getChar γ a (Int32.ofNat i) G = some (Int32.ofNat (nd l i), G) := by
  obtain ⟨c1, c2, c3⟩ := (h.2 i hi).2 rfl
  exact J8_getChar h.1 hl (by omega) hn c1 c2 c3
theorem Sbx.isLatin (h : Sbx γ G x cd C a l) : f_J5_isLatin1 γ x G = some ((if cd = 0 then 1 else 0), G) := by
  obtain ⟨h1, h2, h3, h4, h5, h6, _⟩ := h
  unfold f_J5_isLatin1
  rw [if_neg (by decide), gI_ok (okf h1 (by decide)), h6]
  by_cases c : cd = 0
  · rw [if_pos (by rw [c]; rfl), if_pos c]; rfl
  · rw [if_neg (by rw [show cd = 1 by omega]; decide), if_neg c]; rfl
theorem Sbx.len (h : Sbx γ G x cd C a l) : f_J6_length γ x G = some (Int32.ofNat l.length, G) := by
  unfold f_J6_length f_J5_length
  rw [if_pos h.1, gI_ok (okf h.1 (by decide)), h.2.2.1]
  rfl
theorem newSb {β : Type} {K : AH → Option β} {Q : β → Prop} (hw : Wf G) (hc : Cn γ G)
    (k : ∀ g, Sbx γ g (hS G) 0 16 (hS G + 1) [] → Fr (fun _ => False) G g → Wf g → hS g = hS G + 2 → hM g = hM G + (cInst 6 + 16) → wp (K g) Q) :
    wp (bV (if hS G ≠ 0 then f_J6_init γ (hS G) (nO G 6 (cInst 6)) else none) K) Q := by
  obtain ⟨n1, n2, n3, n4⟩ := newObj (c := 6) (n := cInst 6) hw
  have hlt := hc.lt
  obtain ⟨m1, m2, m3, m4⟩ := newArr (n := 16) n2
  have kq : hK (nA (nO G 6 (cInst 6)) 102 16) (hS G) = 6 := by rw [hK_nA, if_neg (by show ¬ hS G = hS G + 1; omega)]; exact n3
  rw [if_pos n4]
  refine wp_bV ?_
  unfold f_J6_init
  refine wp_bV ?_
  rw [if_pos n4]
  unfold f_J5_init
  rw [if_pos n4, if_neg (by decide)]
  refine wp_mA ⟨by decide, by decide⟩ (wp_pR (okw kq (by decide) hlt) (wp_pI ⟨okw (c := 6) kq (by decide) hlt, rfl, rfl⟩ (wp_some (wp_some (k _ ?_ ?_ ?_ ?_ ?_)))))
  · refine ⟨kq, hlt, ?_, Or.inl ?_, by decide, ?_, ?_, m4, Nat.zero_le _, by decide, by omega, m3, fun i hi => absurd hi (Nat.not_lt_zero _)⟩
    · rw [hI_sI, if_neg (by omega)]
      show hI (nO G 6 (cInst 6)) 25 (hS G) = 0
      rw [hI_nO, if_pos rfl]
    · rw [hI_sI, if_neg (by omega)]
      show hI (nO G 6 (cInst 6)) 24 (hS G) = 0
      rw [hI_nO, if_pos rfl]
    · rw [hI_sI, if_pos ⟨rfl, rfl⟩]; rfl
    · show hR (sR _ 22 (hS G) (hS G + 1)) 22 (hS G) = _
      rw [rs]
  · exact (n1.nA.sR (Or.inr (Nat.le_refl _))).sI (Or.inr (Nat.le_refl _))
  · exact (m2.sR).sI
  · rfl
  · show hM G + cInst 6 + 16 = _
    omega
theorem Sbx.room {n : Nat} (h : Sbx γ G x cd C a l) (hw : Wf G) (hc : Cn γ G) (hn : n ≤ 110) :
    wp (f_J5_ensureCapacityInternal γ x (Int32.ofNat n) G) (fun r => ∃ C1 a1, Sbx γ r x cd C1 a1 l ∧ n ≤ C1 ∧ (a1 = a ∨ hS G ≤ a1) ∧ Fr (fun b => b = x) G r ∧ Wf r ∧ hS r ≤ hS G + 1 ∧ hM r ≤ hM G + 500) := by
  have h' := h
  obtain ⟨h1, h2, h3, h4, h5, h6, h7, h8, h9, h10, h11, h12⟩ := h'
  have hlt := hc.lt
  have la := hw.k h12.1 (by decide)
  have lx := hw.k h1 (by decide)
  have hCc : C * (cd + 1) ≤ 600 := Nat.le_trans (Nat.mul_le_mul (by omega) (by omega : cd + 1 ≤ 2)) (by omega : 300 * 2 ≤ 600)
  unfold f_J5_ensureCapacityInternal
  refine wp_gR (okf h1 (by decide)) ?_
  rw [h7]
  refine wp_gL (by rw [h12.1]; decide) (wp_gI (okf h1 (by decide)) ?_)
  rw [h8, h6, shrc h5 (by omega)]
  refine wp_ite (fun e => ?_) (fun e => ?_)
  · rw [i_sub_le (by omega) (by omega)] at e
    exact wp_some ⟨C, a, h, e, Or.inl rfl, Fr.refl _ _, hw, Nat.le_add_right _ _, Nat.le_add_right _ _⟩
  · rw [i_sub_le (by omega) (by omega)] at e
    refine wp_gR (okf h1 (by decide)) ?_
    rw [h7]
    have cap : ∃ C1, n ≤ C1 ∧ C ≤ C1 ∧ C1 ≤ 230 ∧ f_J5_newCapacity γ x (Int32.ofNat n) G = some (Int32.ofNat C1, G) := by
      refine ⟨C + (if n - C < C + 2 then C + 2 else n - C), by split <;> omega, by omega, by split <;> omega, ?_⟩
      unfold f_J5_newCapacity
      rw [gR_ok (okf h1 (by decide)), h7, gL_ok (by rw [h12.1]; decide), h8, gI_ok (okf h1 (by decide)), gI_ok (okf h1 (by decide)), h6, shlc h5, show (2 : Int32) = Int32.ofNat 2 from rfl, shlc h5, i_sub (Nat.mul_le_mul_right _ (by omega)), i_add, ← Nat.sub_mul, ← Nat.add_mul]
      unfold f_J15_newLength f_J16_max
      have q1 : (n - C) * (cd + 1) ≤ 220 := Nat.le_trans (Nat.mul_le_mul (by omega : n - C ≤ 110) (by omega : cd + 1 ≤ 2)) (by omega : 110 * 2 ≤ 220)
      have q2 : (C + 2) * (cd + 1) ≤ 224 := Nat.le_trans (Nat.mul_le_mul (by omega : C + 2 ≤ 112) (by omega : cd + 1 ≤ 2)) (by omega : 112 * 2 ≤ 224)
      have em : (if Int32.ofNat ((n - C) * (cd + 1)) < Int32.ofNat ((C + 2) * (cd + 1)) then some (Int32.ofNat ((C + 2) * (cd + 1)), G) else some (Int32.ofNat ((n - C) * (cd + 1)), G)) = some (Int32.ofNat ((if n - C < C + 2 then C + 2 else n - C) * (cd + 1)), G) := by
        by_cases cc : n - C < C + 2
        · rw [if_pos cc, if_pos ((i_lt (by omega) (by omega)).mpr (Nat.mul_lt_mul_of_pos_right cc (by omega)))]
        · rw [if_neg cc, if_neg (fun q => by
            have := (i_lt (by omega) (by omega)).mp q
            have := Nat.mul_le_mul_right (cd + 1) (by omega : C + 2 ≤ n - C)
            omega)]
      rw [em, bI_s]
      unfold jn
      dsimp only
      rw [i_add, ← Nat.add_mul]
      have q3 : (C + (if n - C < C + 2 then C + 2 else n - C)) * (cd + 1) ≤ 460 := Nat.le_trans (Nat.mul_le_mul (by split <;> omega : C + (if n - C < C + 2 then C + 2 else n - C) ≤ 230) (by omega : cd + 1 ≤ 2)) (by omega : 230 * 2 ≤ 460)
      have q4 : 0 < (C + (if n - C < C + 2 then C + 2 else n - C)) * (cd + 1) := Nat.mul_pos (by split <;> omega) (by omega)
      generalize C + (if n - C < C + 2 then C + 2 else n - C) = D at q3 q4 ⊢
      rw [if_neg (fun q => by rw [show (0 : Int32) = Int32.ofNat 0 from rfl, i_le (by omega) (by decide)] at q; omega), if_neg (fun q => by rw [show (2147483639 : Int32) = Int32.ofNat 2147483639 from rfl, i_lt (by decide) (by omega)] at q; omega), bI_s]
      rw [if_neg (fun q => by rw [show (2147483647 : Int32) = Int32.ofNat 2147483647 from rfl, i_eq (by omega) (by decide)] at q; omega), gI_ok (okf h1 (by decide)), h6, shrc h5 (by omega)]
    obtain ⟨C1, c1, c2, c3, c4⟩ := cap
    rw [if_pos h1, c4, bI_s]
    refine wp_gI (okf h1 (by decide)) ?_
    rw [h6, shlc h5]
    have q5 : C1 * (cd + 1) ≤ 460 := Nat.le_trans (Nat.mul_le_mul c3 (by omega : cd + 1 ≤ 2)) (by omega : 230 * 2 ≤ 460)
    refine wp_bR (wp_mono (J17_copyOf (n := C1 * (cd + 1)) hw hc h12.1 (by rw [h8]; exact Nat.mul_le_mul_right _ c2) (by omega)) (fun r hr => ?_))
    obtain ⟨r1, r2, r3, r4, r5, r6, r7, r8⟩ := hr
    have kx : hK r.2 x = 6 := by rw [(r5.2.2.1 x lx).1]; exact h1
    refine wp_pR (okw kx (by decide) h2) (wp_some ⟨C1, hS G, ?_, c1, Or.inr (Nat.le_refl _), ?_, r6.sR, ?_, ?_⟩)
    · have s := r5.2.2.2 x lx (fun q => q)
      refine ⟨kx, h2, (s.1 25).trans h3, ?_, h5, (s.1 23).trans h6, by rw [r1]; exact rs, r3, by omega, by omega, hlt, r2, fun i hi => ?_⟩
      · rcases h4 with q | q
        · exact Or.inl ((s.1 24).trans q)
        · exact Or.inr ((s.1 24).trans q)
      · have b := h12.2 i hi
        have li : l.length * (cd + 1) ≤ C * (cd + 1) := Nat.mul_le_mul_right _ h9
        refine ⟨fun e => ⟨(b.1 e).1, ?_⟩, fun e => ⟨(b.2 e).1, ?_, ?_⟩⟩
        · show hA r.2 (hS G) i = _
          rw [r4 i (by rw [h8, e]; omega)]; exact (b.1 e).2
        · show hA r.2 (hS G) (2 * i) = _
          rw [r4 _ (by rw [h8, e]; omega)]; exact (b.2 e).2.1
        · show hA r.2 (hS G) (2 * i + 1) = _
          rw [r4 _ (by rw [h8, e]; omega)]; exact (b.2 e).2.2
    · exact (r5.mono (fun _ _ q => q.elim)).sR (Or.inl rfl)
    · show hS r.2 ≤ _
      omega
    · show hM r.2 ≤ _
      omega
end S2
