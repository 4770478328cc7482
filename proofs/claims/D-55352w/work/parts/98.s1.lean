/-! signs, and the bytes they lie in -/
theorem i_bv (n : Nat) : (Int32.ofNat n).toBitVec = BitVec.ofNat 32 n := rfl
theorem e255 : ∀ j : Fin 32, (255#32)[j.val] = decide (j.val < 8) := by decide
theorem and255 (v : Int32) : v.toInt8.toInt32 &&& 255 = v &&& 255 := by
  apply Int32.toBitVec_inj.mp
  rw [Int32.toBitVec_and, Int32.toBitVec_and, Int8.toBitVec_toInt32, Int32.toBitVec_toInt8]
  show _ &&& 255#32 = _ &&& 255#32
  ext i hi
  simp only [BitVec.getElem_and, BitVec.getElem_signExtend]
  rw [e255 ⟨i, hi⟩]
  by_cases c : i < 8
  · simp [c, hi]
  · simp [c]
theorem i_and255 (c : Nat) : Int32.ofNat c &&& 255 = Int32.ofNat (c % 256) := by
  apply Int32.toBitVec_inj.mp
  rw [Int32.toBitVec_and, i_bv, i_bv]
  show _ &&& 255#32 = _
  apply BitVec.eq_of_toNat_eq
  rw [BitVec.toNat_and, BitVec.toNat_ofNat, BitVec.toNat_ofNat, BitVec.toNat_ofNat]
  rw [show 255 % 2 ^ 32 = 2 ^ 8 - 1 from rfl, Nat.and_two_pow_sub_one_eq_mod]
  omega
theorem i_shl {n k : Nat} {x : Int32} (hx : x.toBitVec.smod 32 = BitVec.ofNat 32 k) (hk : k < 32) : Int32.ofNat n <<< x = Int32.ofNat (n * 2 ^ k) := by
  apply Int32.toBitVec_inj.mp
  rw [Int32.toBitVec_shiftLeft, hx, i_bv, i_bv]
  apply BitVec.eq_of_toNat_eq
  have : 2 ^ k < 2 ^ 32 := Nat.pow_lt_pow_right (by decide) hk
  have hk2 : k % 2 ^ 32 = k := Nat.mod_eq_of_lt (by omega)
  rw [BitVec.shiftLeft_eq', BitVec.toNat_shiftLeft, BitVec.toNat_ofNat, BitVec.toNat_ofNat, BitVec.toNat_ofNat, hk2, Nat.shiftLeft_eq, Nat.mod_mul_mod]
theorem i_shr {n k : Nat} {x : Int32} (hx : x.toBitVec.smod 32 = BitVec.ofNat 32 k) (hk : k < 32) (hn : n < 2147483648) : Int32.ofNat n >>> x = Int32.ofNat (n / 2 ^ k) := by
  apply Int32.toBitVec_inj.mp
  rw [Int32.toBitVec_shiftRight, hx, i_bv, i_bv]
  have hk2 : k % 2 ^ 32 = k := Nat.mod_eq_of_lt (by omega)
  have hm : (BitVec.ofNat 32 n).msb = false := by
    rw [BitVec.msb_eq_decide, BitVec.toNat_ofNat]
    exact decide_eq_false (by omega)
  rw [BitVec.sshiftRight_eq', BitVec.sshiftRight_eq_of_msb_false hm, BitVec.toNat_ofNat, hk2]
  apply BitVec.eq_of_toNat_eq
  rw [BitVec.toNat_ushiftRight, BitVec.toNat_ofNat, BitVec.toNat_ofNat, Nat.shiftRight_eq_div_pow]
  have : n / 2 ^ k ≤ n := Nat.div_le_self _ _
  rw [Nat.mod_eq_of_lt (show n < 2 ^ 32 by omega), Nat.mod_eq_of_lt (show n / 2 ^ k < 2 ^ 32 by omega)]
theorem i_or8 {a b : Nat} (ha : a < 256) (hb : b < 256) : Int32.ofNat a ||| Int32.ofNat (b * 2 ^ 8) = Int32.ofNat (a + 256 * b) := by
  apply Int32.toBitVec_inj.mp
  rw [Int32.toBitVec_or, i_bv, i_bv, i_bv]
  apply BitVec.eq_of_toNat_eq
  rw [BitVec.toNat_or, BitVec.toNat_ofNat, BitVec.toNat_ofNat, BitVec.toNat_ofNat, Nat.mod_eq_of_lt (by omega), Nat.mod_eq_of_lt (by omega), Nat.mod_eq_of_lt (by omega)]
  rw [Nat.or_comm, Nat.mul_comm b, ← Nat.two_pow_add_eq_or_of_lt (by omega : a < 2 ^ 8)]
  omega
theorem i_mod16 {c : Nat} (h : c < 2147483648) : ((Int32.ofNat c).toUInt32 % 65536).toInt32 = Int32.ofNat (c % 65536) := by
  apply Int32.toBitVec_inj.mp
  apply BitVec.eq_of_toNat_eq
  show (UInt32.toBitVec (_ % 65536)).toNat = _
  rw [UInt32.toNat_toBitVec, UInt32.toNat_mod]
  show (BitVec.ofNat 32 c).toNat % (65536 : UInt32).toNat = (BitVec.ofNat 32 (c % 65536)).toNat
  rw [BitVec.toNat_ofNat, BitVec.toNat_ofNat]
  show c % 2 ^ 32 % 65536 = _
  omega
def b8 (c : Nat) : Int32 := (Int32.ofNat c).toInt8.toInt32
theorem b8_and (c : Nat) : b8 c &&& 255 = Int32.ofNat (c % 256) := by
  unfold b8
  rw [and255, i_and255]
theorem b8_inj {c d : Nat} (hc : c < 256) (hd : d < 256) (h : b8 c = b8 d) : c = d := by
  have e : b8 c &&& 255 = b8 d &&& 255 := by rw [h]
  rw [b8_and, b8_and, i_eq (by omega) (by omega)] at e
  omega
theorem vN_byte (v : Int32) : vN .byte v = v.toInt8.toInt32 := rfl
theorem vN_b8 (c : Nat) : vN (aTy 102) (b8 c) = b8 c := by
  show (b8 c).toInt8.toInt32 = b8 c
  unfold b8
  rw [Int8.toInt8_toInt32]
theorem sh1 : ((1 : Int32) &&& 31).toBitVec.smod 32 = BitVec.ofNat 32 1 := by decide
theorem sh0 : ((0 : Int32) &&& 31).toBitVec.smod 32 = BitVec.ofNat 32 0 := by decide
theorem sh8 : ((8 : Int32) &&& 31).toBitVec.smod 32 = BitVec.ofNat 32 8 := by decide
theorem shc {cd : Nat} (h : cd ≤ 1) : ((Int32.ofNat cd) &&& 31).toBitVec.smod 32 = BitVec.ofNat 32 cd := by
  rcases Nat.lt_or_ge cd 1 with c | c
  · rw [show cd = 0 by omega]; decide
  · rw [show cd = 1 by omega]; decide
theorem shl1 (n : Nat) : Int32.ofNat n <<< ((1 : Int32) &&& 31) = Int32.ofNat (2 * n) := by rw [i_shl sh1 (by decide)]; congr 1; omega
theorem shr1 {n : Nat} (h : n < 2147483648) : Int32.ofNat n >>> ((1 : Int32) &&& 31) = Int32.ofNat (n / 2) := by rw [i_shr sh1 (by decide) h]
theorem shlc {n cd : Nat} (h : cd ≤ 1) : Int32.ofNat n <<< ((Int32.ofNat cd) &&& 31) = Int32.ofNat (n * (cd + 1)) := by
  rw [i_shl (shc h) (by omega)]
  rcases Nat.lt_or_ge cd 1 with c | c
  · rw [show cd = 0 by omega]
  · rw [show cd = 1 by omega]
theorem shrc {n cd : Nat} (h : cd ≤ 1) (hn : n * (cd + 1) < 2147483648) : Int32.ofNat (n * (cd + 1)) >>> ((Int32.ofNat cd) &&& 31) = Int32.ofNat n := by
  rw [i_shr (shc h) (by omega) hn]
  rcases Nat.lt_or_ge cd 1 with c | c
  · rw [show cd = 0 by omega]; congr 1; omega
  · rw [show cd = 1 by omega]; congr 1; omega
theorem hi_lo {c : Nat} (h : c < 65536) : ((((b8 c &&& (255 : Int32)) <<< ((0 : Int32) &&& 31)) ||| ((b8 (c / 256) &&& (255 : Int32)) <<< ((8 : Int32) &&& 31))).toUInt32 % 65536).toInt32 = Int32.ofNat c := by
  rw [b8_and, b8_and, i_shl sh0 (by decide), i_shl sh8 (by decide), Nat.pow_zero, Nat.mul_one, i_or8 (by omega) (by omega), i_mod16 (by omega)]
  congr 1; omega
theorem put_lo {c : Nat} (h : c < 65536) : vN (aTy 102) ((Int32.ofNat c >>> ((0 : Int32) &&& 31))).toInt8.toInt32 = b8 c := by
  rw [i_shr sh0 (by decide) (by omega), Nat.pow_zero, Nat.div_one]
  exact vN_b8 c
theorem put_hi {c : Nat} (h : c < 65536) : vN (aTy 102) ((Int32.ofNat c >>> ((8 : Int32) &&& 31))).toInt8.toInt32 = b8 (c / 256) := by
  rw [i_shr sh8 (by decide) (by omega)]
  exact vN_b8 _
/-- the signs l in the bytes at a: one byte each (cd 0) or two -/
def BytR (G : AH) (a cd : Nat) (l : List Nat) : Prop := hK G a = 102 ∧ ∀ i, i < l.length → (cd = 0 → nd l i < 256 ∧ hA G a i = b8 (nd l i)) ∧ (cd = 1 → nd l i < 65536 ∧ hA G a (2 * i) = b8 (nd l i) ∧ hA G a (2 * i + 1) = b8 (nd l i / 256))
/-- a String, its bytes at a -/
def StrX (γ : GP) (G : AH) (x cd a : Nat) (l : List Nat) : Prop := hK G x = 7 ∧ cd ≤ 1 ∧ hI G 27 x = Int32.ofNat cd ∧ hR G 26 x = a ∧ hL G a = l.length * (cd + 1) ∧ l.length ≤ 1000 ∧ BytR G a cd l
/-- a StringBuilder: the bytes at a, of room for C signs -/
def Sbx (γ : GP) (G : AH) (x cd C a : Nat) (l : List Nat) : Prop := hK G x = 6 ∧ γ.2 < x ∧ hI G 25 x = Int32.ofNat l.length ∧ (hI G 24 x = 0 ∨ hI G 24 x = 1) ∧ cd ≤ 1 ∧ hI G 23 x = Int32.ofNat cd ∧ hR G 22 x = a ∧ hL G a = C * (cd + 1) ∧ l.length ≤ C ∧ C ≤ 300 ∧ γ.2 < a ∧ BytR G a cd l
def Sb (γ : GP) (G : AH) (x : Nat) (l : List Nat) : Prop := ∃ cd C a, Sbx γ G x cd C a l
section S1
variable {γ : GP} {G G1 : AH} {x cd C a : Nat} {l : List Nat}
theorem BytR.keep {P : Nat → Prop} (h : BytR G a cd l) (hw : Wf G) (hF : Fc P G G1) (hn : ¬ P a) : BytR G1 a cd l := by
  have la := hw.k h.1 (by decide)
  refine ⟨by rw [hF.kind la]; exact h.1, fun i hi => ?_⟩
  rw [hF.rA la hn]
  exact h.2 i hi
theorem StrX.keep {P : Nat → Prop} (h : StrX γ G x cd a l) (hw : Wf G) (hF : Fc P G G1) (hn : ¬ P x) (hn2 : ¬ P a) : StrX γ G1 x cd a l := by
  obtain ⟨h1, h2, h3, h4, h5, h6, h7⟩ := h
  have lx := hw.k h1 (by decide)
  have la := hw.k h7.1 (by decide)
  exact ⟨by rw [hF.kind lx]; exact h1, h2, by rw [hF.rI lx hn]; exact h3, by rw [hF.rR lx hn (by decide)]; exact h4, by rw [hF.rL la]; exact h5, h6, h7.keep hw hF hn2⟩
theorem Sbx.keep {P : Nat → Prop} (h : Sbx γ G x cd C a l) (hw : Wf G) (hF : Fc P G G1) (hn : ¬ P x) (hn2 : ¬ P a) : Sbx γ G1 x cd C a l := by
  obtain ⟨h1, h2, h3, h4, h5, h6, h7, h8, h9, h10, h11, h12⟩ := h
  have lx := hw.k h1 (by decide)
  have la := hw.k h12.1 (by decide)
  exact ⟨by rw [hF.kind lx]; exact h1, h2, by rw [hF.rI lx hn]; exact h3, by rw [hF.rI lx hn]; exact h4, h5, by rw [hF.rI lx hn]; exact h6, by rw [hF.rR lx hn (by decide)]; exact h7, by rw [hF.rL la]; exact h8, h9, h10, h11, h12.keep hw hF hn2⟩
theorem Fr.toS {P : Nat → Prop} (h : Fr P G G1) (hw : Wf G) (hp : ∀ a, a < hS G → P a → hK G a ≠ 15 ∧ hK G a ≠ 21 ∧ hK G a ≠ 26) : Fc P G G1 := h.toC hw hp
theorem J16_min (a b : Nat) (ha : a < 2147483648) (hb : b < 2147483648) : f_J16_min γ (Int32.ofNat a) (Int32.ofNat b) G = some (Int32.ofNat (Nat.min a b), G) := by
  unfold f_J16_min
  by_cases c : b < a
  · rw [if_pos ((i_lt hb ha).mpr c), show Nat.min a b = b from Nat.min_eq_right (by omega)]
  · rw [if_neg (fun e => c ((i_lt hb ha).mp e)), show Nat.min a b = a from Nat.min_eq_left (by omega)]
theorem bI_s {β : Type} {v : Int32} {K : Int32 → AH → Option β} : bI (some (v, G)) K = K v G := rfl
theorem bR_s {β : Type} {v : Nat} {K : Nat → AH → Option β} : bR (some (v, G)) K = K v G := rfl
theorem bV_s {β : Type} {K : AH → Option β} : bV (some G) K = K G := rfl
theorem newArr {n : Nat} (hw : Wf G) : Fr (fun _ => False) G (nA G 102 n) ∧ Wf (nA G 102 n) ∧ hK (nA G 102 n) (hS G) = 102 ∧ hL (nA G 102 n) (hS G) = n := ⟨(Fr.refl _ _).nA, hw.nA, by rw [hK_nA, if_pos rfl], by rw [hL_nA, if_pos rfl]⟩
/-- a longer or equal copy of bytes -/
theorem J17_copyOf {n : Nat} (hw : Wf G) (hc : Cn γ G) (hk : hK G a = 102) (hn : hL G a ≤ n) (hn9 : n ≤ 1000) :
    wp (f_J17_copyOf γ a (Int32.ofNat n) G) (fun r => r.1 = hS G ∧ hK r.2 (hS G) = 102 ∧ hL r.2 (hS G) = n ∧ (∀ i, i < hL G a → hA r.2 (hS G) i = hA G a i) ∧ Fr (fun _ => False) G r.2 ∧ Wf r.2 ∧ hS r.2 = hS G + 1 ∧ hM r.2 = hM G + n) := by
  have hlt := hc.lt
  have la := hw.k hk (by decide)
  unfold f_J17_copyOf
  refine wp_gL (by rw [hk]; decide) (wp_ite (fun e => ?_) (fun e => ?_))
  · rw [i_eq (by omega) (by omega)] at e
    rw [if_pos hk]
    refine wp_gCA (by show hK (sAr (nA G 102 (hL G a)) (hS G) (hA G a)) (hS G) = 102; exact (newArr (n := hL G a) hw).2.2.1) (wp_some ⟨rfl, (newArr (n := hL G a) hw).2.2.1, ?_, fun i hi => ?_, (Fr.refl _ _).nA.sAr (Or.inr (Nat.le_refl _)), hw.nA.sAr, rfl, ?_⟩)
    · show hL (nA G 102 (hL G a)) (hS G) = n
      rw [(newArr (n := hL G a) hw).2.2.2]; omega
    · show hA (sAr (nA G 102 (hL G a)) (hS G) (hA G a)) (hS G) i = _
      rw [hA_sAr, if_pos rfl]
    · show hM G + hL G a = _
      omega
  · refine wp_mA ⟨i_neg (by omega), by rw [i_nat (by omega)]; omega⟩ ?_
    rw [i_nat (by omega)]
    obtain ⟨n1, n2, n3, n4⟩ := newArr (n := n) hw
    have ka : hK (nA G 102 n) a = 102 := by rw [hK_nA, if_neg (by omega)]; exact hk
    have lL : hL (nA G 102 n) a = hL G a := by rw [hL_nA, if_neg (by omega)]
    refine wp_gL (by rw [ka]; decide) (wp_bI ?_)
    rw [lL, J16_min _ _ (by omega) (by omega), show Nat.min (hL G a) n = hL G a from Nat.min_eq_left hn]
    refine wp_some ?_
    unfold nCA
    have okc : okCpy γ (nA G 102 n) 102 a (hS G) 0 0 (Int32.ofNat (hL G a)) := ⟨ka, n3, by omega, by decide, by decide, i_neg (by omega), by rw [i_nat (by omega), lL]; show 0 + _ ≤ _; omega, by rw [i_nat (by omega), n4]; show 0 + _ ≤ _; omega⟩
    rw [if_pos okc]
    refine wp_some ⟨rfl, n3, n4, fun i hi => ?_, n1.sAr (Or.inr (Nat.le_refl _)), n2.sAr, rfl, rfl⟩
    rw [hA_sAr, if_pos rfl, i_nat (by omega)]
    unfold va_cpy
    rw [if_pos ⟨Nat.zero_le _, by show i < 0 + hL G a; omega⟩, hA_nA, if_neg (by omega)]
    show hA G a (0 + (i - 0)) = _
    rw [Nat.zero_add, Nat.sub_zero]
theorem J17_range {n : Nat} (hw : Wf G) (hc : Cn γ G) (hk : hK G a = 102) (hn : n ≤ hL G a) (hn9 : hL G a ≤ 1000) :
    wp (f_J17_copyOfRange γ a (0 : Int32) (Int32.ofNat n) G) (fun r => r.1 = hS G ∧ hK r.2 (hS G) = 102 ∧ hL r.2 (hS G) = n ∧ (∀ i, i < n → hA r.2 (hS G) i = hA G a i) ∧ Fr (fun _ => False) G r.2 ∧ Wf r.2 ∧ hS r.2 = hS G + 1 ∧ hM r.2 = hM G + n) := by
  have hlt := hc.lt
  have la := hw.k hk (by decide)
  unfold f_J17_copyOfRange
  refine wp_jn ?_
  rw [if_pos rfl]
  refine wp_gL (by rw [hk]; decide) (wp_ite (fun e => ?_) (fun e => ?_))
  · rw [i_eq (by omega) (by omega)] at e
    rw [if_pos hk]
    refine wp_gCA (by show hK (sAr (nA G 102 (hL G a)) (hS G) (hA G a)) (hS G) = 102; exact (newArr (n := hL G a) hw).2.2.1) (wp_some ⟨rfl, (newArr (n := hL G a) hw).2.2.1, ?_, fun i hi => ?_, (Fr.refl _ _).nA.sAr (Or.inr (Nat.le_refl _)), hw.nA.sAr, rfl, ?_⟩)
    · show hL (nA G 102 (hL G a)) (hS G) = n
      rw [(newArr (n := hL G a) hw).2.2.2]; omega
    · show hA (sAr (nA G 102 (hL G a)) (hS G) (hA G a)) (hS G) i = _
      rw [hA_sAr, if_pos rfl]
    · show hM G + hL G a = _
      omega
  · refine wp_bR ?_
    unfold f_J17_copyOfRangeByte f_J17_checkLength
    have z : (0 : Int32) = Int32.ofNat 0 := rfl
    rw [if_pos (show (0 : Int32) ≤ Int32.ofNat n by rw [z, i_le (by decide) (by omega)]; omega), bV_s, z, i_sub (Nat.zero_le _), Nat.sub_zero]
    refine wp_mA ⟨i_neg (by omega), by rw [i_nat (by omega)]; omega⟩ ?_
    rw [i_nat (by omega)]
    obtain ⟨n1, n2, n3, n4⟩ := newArr (n := n) hw
    have ka : hK (nA G 102 n) a = 102 := by rw [hK_nA, if_neg (by omega)]; exact hk
    have lL : hL (nA G 102 n) a = hL G a := by rw [hL_nA, if_neg (by omega)]
    refine wp_gL (by rw [ka]; decide) (wp_bI ?_)
    rw [lL, i_sub (Nat.zero_le _), Nat.sub_zero, J16_min _ _ (by omega) (by omega), show Nat.min (hL G a) n = n from Nat.min_eq_right hn]
    refine wp_some ?_
    unfold nCA
    have okc : okCpy γ (nA G 102 n) 102 a (hS G) (Int32.ofNat 0) (Int32.ofNat 0) (Int32.ofNat n) := ⟨ka, n3, by omega, by decide, by decide, i_neg (by omega), by rw [i_nat (n := n) (by omega), lL]; show 0 + _ ≤ _; omega, by rw [i_nat (n := n) (by omega), n4]; show 0 + _ ≤ _; omega⟩
    rw [if_pos okc, i_nat (n := n) (by omega)]
    refine wp_some (wp_some ⟨rfl, n3, n4, fun i hi => ?_, n1.sAr (Or.inr (Nat.le_refl _)), n2.sAr, rfl, rfl⟩)
    show hA (sAr (nA G 102 n) (hS G) (va_cpy (hA (nA G 102 n) a) (hA (nA G 102 n) (hS G)) 0 0 n)) (hS G) i = _
    rw [hA_sAr, if_pos rfl]
    unfold va_cpy
    rw [if_pos ⟨Nat.zero_le _, by show i < 0 + n; omega⟩, hA_nA, if_neg (by omega)]
    show hA G a (0 + (i - 0)) = _
    rw [Nat.zero_add, Nat.sub_zero]
end S1
