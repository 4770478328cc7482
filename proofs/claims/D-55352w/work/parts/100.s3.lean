/-! a sign more; the builder's text as a String -/
def ltC (cd c : Nat) : Prop := c < if cd = 0 then 256 else 65536
section S3
variable {γ : GP} {G G1 : AH} {x cd C a : Nat} {l : List Nat}
theorem J8_len {n : Nat} (hk : hK G a = 102) (hl : hL G a = n) (hn : n < 10000) : f_J8_length γ a G = some (Int32.ofNat (n / 2), G) := by
  unfold f_J8_length
  rw [gL_ok (by rw [hk]; decide), hl, shr1 (by omega)]
theorem J8_chk {i n : Nat} (hk : hK G a = 102) (hl : hL G a = n) (hn : n < 10000) (hi : 2 * i + 1 < n) : f_J8_checkIndex γ (Int32.ofNat i) a G = some G := by
  unfold f_J8_checkIndex f_J7_checkIndex f_J18_checkIndex
  rw [J8_len hk hl hn, bI_s, if_neg (i_neg (by omega)), if_pos ((i_lt (by omega) (by omega)).mpr (by omega))]
  rfl
theorem J19_chk {i n : Nat} (hi : i < n) (hn : n < 10000) : f_J7_checkIndex γ (Int32.ofNat i) (Int32.ofNat n) G = some G := by
  unfold f_J7_checkIndex f_J18_checkIndex
  rw [if_neg (i_neg (by omega)), if_pos ((i_lt (by omega) (by omega)).mpr hi)]
  rfl
theorem chkOff {len n : Nat} (hk : hK G a = 102) (hl : hL G a = n) (hn : n < 10000) (hi : 2 * len ≤ n) : f_J8_checkBoundsOffCount γ (0 : Int32) (Int32.ofNat len) a G = some G := by
  unfold f_J8_checkBoundsOffCount f_J7_checkBoundsOffCount f_J18_checkFromIndexSize
  have z : (0 : Int32) = Int32.ofNat 0 := rfl
  have b : n / 2 ||| 0 ||| len < 2 ^ 14 := Nat.or_lt_two_pow (Nat.or_lt_two_pow (by omega) (by decide)) (by omega)
  rw [J8_len hk hl hn, bI_s, z, i_or, i_or, if_neg (by rw [← z]; exact i_neg (by omega)), i_sub (Nat.zero_le _), if_pos ((i_le (by omega) (by omega)).mpr (by omega))]
  rfl
theorem BytR.snoc {n c : Nat} {G1 : AH} (h : BytR G a cd l) (hcd : cd ≤ 1) (hc : ltC cd c) (hk : hK G1 a = 102) (hs : ∀ i, i < l.length * (cd + 1) → hA G1 a i = hA G a i) (h0 : cd = 0 → hA G1 a l.length = b8 c) (h1 : cd = 1 → hA G1 a (2 * l.length) = b8 c ∧ hA G1 a (2 * l.length + 1) = b8 (c / 256)) : BytR G1 a cd (l ++ [c]) := by
  refine ⟨hk, fun i hi => ?_⟩
  rw [List.length_append, List.length_singleton] at hi
  unfold ltC at hc
  by_cases e : i = l.length
  · rw [e, nd_last]
    refine ⟨fun q => ⟨?_, h0 q⟩, fun q => ⟨?_, h1 q⟩⟩
    · rw [if_pos q] at hc; exact hc
    · rw [if_neg (by omega)] at hc; exact hc
  · have b := h.2 i (by omega)
    rw [nd_app (by omega)]
    refine ⟨fun q => ⟨(b.1 q).1, ?_⟩, fun q => ⟨(b.2 q).1, ?_, ?_⟩⟩
    · rw [hs i (by rw [q]; omega)]; exact (b.1 q).2
    · rw [hs _ (by rw [q]; omega)]; exact (b.2 q).2.1
    · rw [hs _ (by rw [q]; omega)]; exact (b.2 q).2.2
/-- bytes become pairs of bytes -/
theorem J8_inflLoop {m : Nat} {G0 : AH} (hb : BytR G0 a 0 l) (hm : γ.2 < m) (ham : a ≠ m) (hl : hL G0 a ≤ 300) (hll : l.length ≤ hL G0 a) (hw0 : Wf G0) (n : Nat) : ∀ (i : Nat) (G : AH), l.length - i < n → i ≤ l.length → hK G m = 102 → hL G m = 2 * hL G0 a → Wf G → Fr (fun b => b = m) G0 G → hS G = hS G0 → hM G = hM G0 → BytR G m 1 (l.take i) →
    wp (f_J8_inflate_L10 γ a m (Int32.ofNat l.length) n (Int32.ofNat i) (Int32.ofNat i) (Int32.ofNat i) G) (fun r => BytR r m 1 l ∧ Wf r ∧ Fr (fun b => b = m) G0 r ∧ hS r = hS G0 ∧ hM r = hM G0) := by
  induction n with
  | zero => intro i G h; exact absurd h (Nat.not_lt_zero _)
  | succ n ih =>
    intro i G hn hi km lm hw hF hs hms hB
    unfold f_J8_inflate_L10
    by_cases c : l.length ≤ i
    · rw [if_pos ((i_le (by omega) (by omega)).mpr c)]
      rw [List.take_of_length_le (by omega)] at hB
      exact wp_some ⟨hB, hw, hF, hs, hms⟩
    · rw [if_neg (fun e => c ((i_le (by omega) (by omega)).mp e))]
      have la := hw0.k hb.1 (by decide)
      have b := (hb.2 i (by omega)).1 rfl
      have s := hF.2.2.2 a la ham
      have ka : hK G a = 102 := by rw [(hF.2.2.1 a la).1]; exact hb.1
      have lA : hL G a = hL G0 a := (hF.2.2.1 a la).2
      refine wp_gA (okx ka lA (by omega) (by omega)) ?_
      rw [i_nat (by omega), s.2.2.1, b.2, b8_and, Nat.mod_eq_of_lt b.1]
      rw [J8_putChar km hm lm (by omega) (by omega) (by omega), bV_s, i_one]
      refine ih (i + 1) _ (by omega) (by omega) km lm (hw.sA).sA ((hF.sA (Or.inl rfl)).sA (Or.inl rfl)) hs hms ?_
      have et : l.take (i + 1) = l.take i ++ [nd l i] := by
        rw [List.take_add_one, List.getElem?_eq_getElem (by omega), nd_get (by omega)]; rfl
      rw [et]
      have el : (l.take i).length = i := by rw [List.length_take]; omega
      refine hB.snoc (n := 0) (by decide) (show nd l i < if (1 : Nat) = 0 then 256 else 65536 by rw [if_neg (by decide)]; omega) km (fun j hj => ?_) (fun q => absurd q (by decide)) (fun _ => ⟨?_, ?_⟩)
      · rw [el] at hj
        rw [hA_sA, if_neg (by omega), hA_sA, if_neg (by omega)]
      · rw [el, hA_sA, if_neg (by omega), hA_sA, if_pos ⟨rfl, rfl⟩]
      · rw [el, hA_sA, if_pos ⟨rfl, rfl⟩]
theorem Sbx.infl (h : Sbx γ G x 0 C a l) (hw : Wf G) (hc : Cn γ G) : wp (f_J5_inflate γ x G) (fun r => Sbx γ r x 1 C (hS G) l ∧ Fr (fun b => b = x) G r ∧ Wf r ∧ hS r = hS G + 1 ∧ hM r ≤ hM G + 600) := by
  have h' := h
  obtain ⟨h1, h2, h3, h4, h5, h6, h7, h8, h9, h10, h11, h12⟩ := h'
  have hlt := hc.lt
  have la := hw.k h12.1 (by decide)
  have lx := hw.k h1 (by decide)
  rw [show C * (0 + 1) = C by omega] at h8
  unfold f_J5_inflate
  rw [if_pos h1, h.isLatin, bI_s, if_pos rfl, if_neg (by decide)]
  refine wp_gR (okf h1 (by decide)) ?_
  rw [h7]
  refine wp_gL (by rw [h12.1]; decide) ?_
  rw [h8]
  unfold f_J8_newBytesFor f_J8_newBytesLength
  have z : (0 : Int32) = Int32.ofNat 0 := rfl
  rw [if_pos (show (0 : Int32) ≤ Int32.ofNat C by rw [z, i_le (by decide) (by omega)]; omega), if_pos (show Int32.ofNat C < (1073741823 : Int32) by rw [show (1073741823 : Int32) = Int32.ofNat 1073741823 from rfl, i_lt (by omega) (by decide)]; omega), bI_s, shl1]
  obtain ⟨n1, n2, n3, n4⟩ := newArr (n := 2 * C) hw
  refine wp_bR (wp_mA ⟨i_neg (by omega), by rw [i_nat (by omega)]; omega⟩ ?_)
  rw [i_nat (by omega)]
  have kx : hK (nA G 102 (2 * C)) x = 6 := by rw [hK_nA, if_neg (by omega)]; exact h1
  have sx := n1.2.2.2 x lx (fun q => q)
  refine wp_some (wp_gR (okf kx (by decide)) (wp_gI (okf kx (by decide)) (wp_bV ?_)))
  rw [sx.2.1, h7, sx.1, h3]
  unfold f_J19_inflate
  refine wp_bV ?_
  unfold f_J8_inflate
  rw [chkOff n3 n4 (by omega) (by omega), bV_s, z]
  have bA := h12.keep hw (n1.toC hw (fun _ _ q => q.elim)) (fun q => q)
  have lA : hL (nA G 102 (2 * C)) a = C := by rw [hL_nA, if_neg (by omega)]; exact h8
  refine wp_mono (J8_inflLoop (G0 := nA G 102 (2 * C)) bA hlt (by omega) (by omega) (by omega) n2 FU 0 _ (by show _ < 4294967296; omega) (Nat.zero_le _) n3 (by rw [n4, lA]) n2 (Fr.refl _ _) rfl rfl ⟨n3, fun i hi => absurd hi (by rw [List.take_zero]; exact Nat.not_lt_zero _)⟩) (fun r hr => ?_)
  obtain ⟨r1, r2, r3, r4, r5⟩ := hr
  have lx1 : x < hS (nA G 102 (2 * C)) := by show x < hS G + 1; omega
  have kxr : hK r x = 6 := by rw [(r3.2.2.1 x lx1).1]; exact kx
  have sxr := r3.2.2.2 x lx1 (by omega)
  have ksr : hL r (hS G) = 2 * C := by rw [(r3.2.2.1 (hS G) (Nat.lt_succ_self _)).2]; exact n4
  refine wp_some (wp_pR (okw kxr (by decide) h2) (wp_pI ⟨okw (c := 6) kxr (by decide) h2, rfl, rfl⟩ (wp_some ⟨⟨kxr, h2, ?_, ?_, by decide, ?_, ?_, ?_, h9, h10, hlt, r1⟩, ?_, (r2.sR).sI, r4, ?_⟩)))
  · rw [hI_sI, if_neg (by omega)]
    exact ((sxr.1 25).trans (sx.1 25)).trans h3
  · rw [hI_sI, if_neg (by omega)]
    have e : hI r 24 x = hI G 24 x := (sxr.1 24).trans (sx.1 24)
    show hI r 24 x = 0 ∨ hI r 24 x = 1
    rw [e]; exact h4
  · rw [hI_sI, if_pos ⟨rfl, rfl⟩]; rfl
  · show hR (sR r 22 x (hS G)) 22 x = _
    exact rs
  · show hL r (hS G) = _
    omega
  · have f1 : Fr (fun b => b = x) G r := (n1.trans r3 (fun b e => Or.inr (by omega))).mono (fun _ _ q => q.elim)
    exact (f1.sR (Or.inl rfl)).sI (Or.inl rfl)
  · show hM r ≤ _
    rw [r5]
    show hM G + 2 * C ≤ _
    omega
/-- the append, where the room is there -/
theorem Sbx.put {c : Nat} {G9 : AH} (h : Sbx γ G x cd C a l) (hw : Wf G) (hc : ltC cd c) (hl : l.length < C) :
    ∃ r, Sbx γ r x cd C a (l ++ [c]) ∧ Fr (fun b => b = x ∨ b = a) G r ∧ Wf r ∧ hS r = hS G ∧ hM r = hM G ∧
    (cd = 0 → ∀ {β : Type} (K : AH → Option β), (pI γ G x 25 (Int32.ofNat l.length + (1 : Int32)) fun g20 => pA γ g20 102 a (Int32.ofNat l.length) (Int32.ofNat c).toInt8.toInt32 K) = K r) ∧
    (cd = 1 → ∀ {β : Type} (K : AH → Option β), (pI γ G x 25 (Int32.ofNat l.length + (1 : Int32)) fun g13 => bV (f_J8_putCharSB γ a (Int32.ofNat l.length) (Int32.ofNat c) g13) K) = K r) := by
  have h' := h
  obtain ⟨h1, h2, h3, h4, h5, h6, h7, h8, h9, h10, h11, h12⟩ := h'
  have la := hw.k h12.1 (by decide)
  have hne : x ≠ a := fun e => by rw [e, h12.1] at h1; omega
  have wI : ∀ {β : Type} (K : AH → Option β), pI γ G x 25 (Int32.ofNat l.length + (1 : Int32)) K = K (sI G 25 x (Int32.ofNat (l.length + 1))) := fun K => by
    rw [i_one]
    exact if_pos ⟨okw h1 (by decide) h2, rfl, rfl⟩
  have mk : ∀ r, hK r = hK G → hR r = hR G → hI r = hI (sI G 25 x (Int32.ofNat (l.length + 1))) → hL r = hL G → BytR r a cd (l ++ [c]) → Sbx γ r x cd C a (l ++ [c]) := fun r e1 e2 e3 e4 hb => by
    refine ⟨by rw [e1]; exact h1, h2, ?_, ?_, h5, ?_, by rw [e2]; exact h7, by rw [e4]; exact h8, by rw [List.length_append, List.length_singleton]; omega, h10, h11, hb⟩
    · rw [e3, hI_sI, if_pos ⟨rfl, rfl⟩, List.length_append, List.length_singleton]
    · rw [e3, hI_sI, if_neg (by omega)]; exact h4
    · rw [e3, hI_sI, if_neg (by omega)]; exact h6
  rcases Nat.lt_or_ge cd 1 with q | q
  · have e0 : cd = 0 := by omega
    subst e0
    have c256 : c < 256 := hc
    refine ⟨sA (sI G 25 x (Int32.ofNat (l.length + 1))) a l.length (b8 c), mk _ rfl rfl rfl rfl ?_, ((Fr.refl _ _).sI (Or.inl (Or.inl rfl))).sA (Or.inl (Or.inr rfl)), (hw.sI).sA, rfl, rfl, fun _ β K => ?_, fun e => absurd e (by decide)⟩
    · refine h12.snoc (n := 0) (by decide) hc h12.1 (fun i hi => ?_) (fun _ => ?_) (fun e => absurd e (by decide))
      · rw [hA_sA, if_neg (by omega)]; rfl
      · rw [hA_sA, if_pos ⟨rfl, rfl⟩]
    · rw [wI, pA_ok (okxw (G := sI G 25 x (Int32.ofNat (l.length + 1))) (show hK G a = 102 from h12.1) (show hL G a = C * (0 + 1) from h8) (by omega) (by omega) h11), i_nat (by omega)]
      show K (sA _ a l.length (vN (aTy 102) (b8 c))) = _
      rw [vN_b8]
  · have e1 : cd = 1 := by omega
    subst e1
    have c16 : c < 65536 := hc
    refine ⟨sA (sA (sI G 25 x (Int32.ofNat (l.length + 1))) a (2 * l.length) (b8 c)) a (2 * l.length + 1) (b8 (c / 256)), mk _ rfl rfl rfl rfl ?_, (((Fr.refl _ _).sI (Or.inl (Or.inl rfl))).sA (Or.inl (Or.inr rfl))).sA (Or.inl (Or.inr rfl)), ((hw.sI).sA).sA, rfl, rfl, fun e => absurd e (by decide), fun _ β K => ?_⟩
    · refine h12.snoc (n := 0) (by decide) hc h12.1 (fun i hi => ?_) (fun e => absurd e (by decide)) (fun _ => ⟨?_, ?_⟩)
      · rw [hA_sA, if_neg (by omega), hA_sA, if_neg (by omega)]; rfl
      · rw [hA_sA, if_neg (by omega), hA_sA, if_pos ⟨rfl, rfl⟩]
      · rw [hA_sA, if_pos ⟨rfl, rfl⟩]
    · rw [wI]
      unfold f_J8_putCharSB
      rw [J8_chk (G := sI G 25 x (Int32.ofNat (l.length + 1))) (show hK G a = 102 from h12.1) (show hL G a = C * (1 + 1) from h8) (by omega) (by omega), bV_s, J8_putChar (G := sI G 25 x (Int32.ofNat (l.length + 1))) (show hK G a = 102 from h12.1) h11 (show hL G a = C * (1 + 1) from h8) (by omega) (by omega) c16]
      rfl
theorem Sb.append {c : Nat} (h : Sbx γ G x cd C a l) (hw : Wf G) (hc : Cn γ G) (hl : l.length < 110) (hch : c < 65536) :
    wp (f_J6_append_3 γ x (Int32.ofNat c) G) (fun r => r.1 = x ∧ ∃ cd1 C1 a1, Sbx γ r.2 x cd1 C1 a1 (l ++ [c]) ∧ (a1 = a ∨ hS G ≤ a1) ∧ (cd1 = 0 ↔ cd = 0 ∧ c < 256) ∧ Fr (fun b => b = x ∨ b = a) G r.2 ∧ Wf r.2 ∧ hS r.2 ≤ hS G + 2 ∧ hM r.2 ≤ hM G + 1100) := by
  unfold f_J6_append_3
  refine wp_bR (wp_ifc h.1 ?_)
  unfold f_J5_append_3
  refine wp_gI (okf h.1 (by decide)) ?_
  rw [h.2.2.1, i_one]
  refine wp_bV (wp_ifc h.1 (wp_mono (h.room (n := l.length + 1) hw hc (by omega)) (fun r hr => ?_)))
  obtain ⟨C1, a1, h1, hC, ha, f1, w1, s1, m1⟩ := hr
  have hc1 := hc.keep (f1.toC hw (fun b _ e => by rw [e, h.1]; decide)) (fun b e => by rw [e]; exact h.2.1)
  have lx := hw.k h.1 (by decide)
  have h5 := h.2.2.2.2.1
  rw [if_pos h1.1, h1.isLatin, bI_s]
  refine wp_jn ?_
  have fin2 : ∀ (g : AH) (a2 : Nat), Sbx γ g x 1 C1 a2 l → Wf g → (a2 = a ∨ hS G ≤ a2) → Fr (fun b => b = x ∨ b = a) G g → hS g ≤ hS G + 2 → hM g ≤ hM G + 1100 →
      wp (gR g x 22 fun v11 => gI g x 25 fun v12 => pI γ g x 25 (v12 + (1 : Int32)) fun g13 => bV (f_J8_putCharSB γ v11 v12 (Int32.ofNat c) g13) fun g14 => (some (x, g14))) (fun r => wp (some (x, r.2)) (fun r => r.1 = x ∧ ∃ cd1 C1 a1, Sbx γ r.2 x cd1 C1 a1 (l ++ [c]) ∧ (a1 = a ∨ hS G ≤ a1) ∧ (cd1 = 0 ↔ False) ∧ Fr (fun b => b = x ∨ b = a) G r.2 ∧ Wf r.2 ∧ hS r.2 ≤ hS G + 2 ∧ hM r.2 ≤ hM G + 1100)) := by
    intro g a2 k1 k2 k3 k4 k5 k6
    refine wp_gR (okf k1.1 (by decide)) (wp_gI (okf k1.1 (by decide)) ?_)
    rw [k1.2.2.2.2.2.2.1, k1.2.2.1]
    obtain ⟨r, p1, p2, p3, p4, p5, _, p7⟩ := k1.put (G9 := g) (c := c) k2 (show c < if (1 : Nat) = 0 then 256 else 65536 by rw [if_neg (by decide)]; exact hch) (by omega)
    rw [p7 rfl]
    refine wp_some (wp_some ⟨rfl, 1, C1, a2, p1, k3, ⟨fun e => by omega, fun e => e.elim⟩, k4.trans p2 (fun b e => ?_), p3, by show hS r ≤ _; omega, by show hM r ≤ _; omega⟩)
    rcases e with e | e
    · exact Or.inl (Or.inl e)
    · rcases k3 with q | q
      · exact Or.inl (Or.inr (by omega))
      · exact Or.inr (by omega)
  by_cases c0 : cd = 0
  · subst c0
    rw [if_pos rfl, if_neg (show ¬ ((1 : Int32) = 0) by decide)]
    unfold f_J19_canEncode
    by_cases c2 : 255 < c
    · rw [if_pos (show (255 : Int32) < Int32.ofNat c by rw [show (255 : Int32) = Int32.ofNat 255 from rfl, i_lt (by decide) (by omega)]; exact c2), rtN_z (Or.inl rfl), bI_s, if_pos rfl]
      dsimp only
      rw [if_pos h1.1, h1.isLatin, bI_s]
      refine wp_jn ?_
      rw [if_pos rfl, if_neg (show ¬ ((1 : Int32) = 0) by decide)]
      refine wp_bV (wp_ifc h1.1 (wp_mono (h1.infl w1 hc1) (fun g hg => ?_)))
      obtain ⟨g1, g2, g3, g4, g5⟩ := hg
      refine wp_mono (fin2 g (hS r) g1 g3 (Or.inr (by have := f1.1; omega)) ((f1.trans g2 (fun b e => Or.inl e)).mono (fun b _ e => Or.inl e)) (by omega) (by omega)) (fun r2 hr2 => wp_mono hr2 (fun r3 hr3 => ?_))
      obtain ⟨z1, cd1, C2, a2, z2, z3, z4, z5⟩ := hr3
      exact ⟨z1, cd1, C2, a2, z2, z3, ⟨fun e => (z4.mp e).elim, fun e => by omega⟩, z5⟩
    · rw [if_neg (show ¬ (255 : Int32) < Int32.ofNat c by rw [show (255 : Int32) = Int32.ofNat 255 from rfl, i_lt (by decide) (by omega)]; exact c2), rtN_z (Or.inr rfl), bI_s, if_neg (show ¬ ((1 : Int32) = 0) by decide)]
      refine wp_gR (okf h1.1 (by decide)) (wp_gI (okf h1.1 (by decide)) ?_)
      rw [h1.2.2.2.2.2.2.1, h1.2.2.1]
      obtain ⟨r2, p1, p2, p3, p4, p5, p6, _⟩ := h1.put (G9 := r) (c := c) w1 (show c < if (0 : Nat) = 0 then 256 else 65536 by rw [if_pos rfl]; omega) (by omega)
      rw [p6 rfl]
      refine wp_some (wp_some ⟨rfl, 0, C1, a1, p1, ha, ⟨fun _ => ⟨rfl, by omega⟩, fun _ => rfl⟩, (f1.mono (fun b _ e => Or.inl e)).trans p2 (fun b e => ?_), p3, by show hS r2 ≤ _; omega, by show hM r2 ≤ _; omega⟩)
      rcases e with e | e
      · exact Or.inl (Or.inl e)
      · rcases ha with q | q
        · exact Or.inl (Or.inr (by omega))
        · exact Or.inr (by omega)
  · have e1 : cd = 1 := by omega
    subst e1
    rw [if_neg (show ¬ ((1 : Nat) = 0) by decide), if_pos rfl]
    dsimp only
    rw [if_pos h1.1, h1.isLatin, bI_s]
    refine wp_jn ?_
    rw [if_neg (show ¬ ((1 : Nat) = 0) by decide), if_pos rfl]
    refine wp_mono (fin2 r a1 h1 w1 ha (f1.mono (fun b _ e => Or.inl e)) (by omega) (by omega)) (fun r2 hr2 => wp_mono hr2 (fun r3 hr3 => ?_))
    obtain ⟨z1, cd1, C2, a2, z2, z3, z4, z5⟩ := hr3
    exact ⟨z1, cd1, C2, a2, z2, z3, ⟨fun e => (z4.mp e).elim, fun e => by omega⟩, z5⟩
theorem Sb.clear (h : Sbx γ G x cd C a l) (hw : Wf G) (hc : Cn γ G) :
    wp (f_J6_setLength γ x (0 : Int32) G) (fun r => Sbx γ r x cd C a [] ∧ Fr (fun b => b = x) G r ∧ Wf r ∧ hS r = hS G ∧ hM r = hM G) := by
  have h' := h
  obtain ⟨h1, h2, h3, h4, h5, h6, h7, h8, h9, h10, h11, h12⟩ := h'
  have hCc : C * (cd + 1) ≤ 600 := Nat.le_trans (Nat.mul_le_mul (by omega) (by omega : cd + 1 ≤ 2)) (by omega : 300 * 2 ≤ 600)
  have z : (0 : Int32) = Int32.ofNat 0 := rfl
  unfold f_J6_setLength f_J5_setLength f_J5_ensureCapacityInternal
  refine wp_bV (wp_ifc h1 ?_)
  rw [if_pos (by decide)]
  refine wp_bV (wp_ifc h1 (wp_gR (okf h1 (by decide)) ?_))
  rw [h7]
  refine wp_gL (by rw [h12.1]; decide) (wp_gI (okf h1 (by decide)) ?_)
  rw [h8, h6, shrc h5 (by omega), if_pos (show (0 : Int32) - Int32.ofNat C ≤ 0 from (i_sub_le (a := 0) (by decide) (by omega)).mpr (Nat.zero_le _))]
  refine wp_some (wp_gI (okf h1 (by decide)) ?_)
  rw [h3, if_pos (show (0 : Int32) ≤ Int32.ofNat l.length by rw [z, i_le (by decide) (by omega)]; exact Nat.zero_le _)]
  refine wp_gI (okf h1 (by decide)) ?_
  rw [h3]
  refine wp_ite (fun e => ?_) (fun e => ?_)
  · refine wp_pI ⟨okw h1 (by decide) h2, rfl, rfl⟩ (wp_some (wp_some ⟨⟨h1, h2, ?_, ?_, h5, ?_, h7, h8, Nat.zero_le _, h10, h11, h12.1, fun i hi => absurd hi (Nat.not_lt_zero _)⟩, (Fr.refl _ _).sI (Or.inl rfl), hw.sI, rfl, rfl⟩))
    · rw [hI_sI, if_pos ⟨rfl, rfl⟩]; rfl
    · rw [hI_sI, if_neg (by omega)]; exact h4
    · rw [hI_sI, if_neg (by omega)]; exact h6
  · refine wp_pI ⟨okw h1 (by decide) h2, rfl, rfl⟩ (wp_pI ⟨okw (c := 6) h1 (by decide) h2, rfl, rfl⟩ (wp_some (wp_some ⟨⟨h1, h2, ?_, ?_, h5, ?_, h7, h8, Nat.zero_le _, h10, h11, h12.1, fun i hi => absurd hi (Nat.not_lt_zero _)⟩, ((Fr.refl (fun b => b = x) G).sI (Or.inl rfl)).sI (Or.inl rfl), (hw.sI).sI, rfl, rfl⟩)))
    · rw [hI_sI, if_pos ⟨rfl, rfl⟩]; rfl
    · rw [hI_sI, if_neg (by omega), hI_sI, if_pos ⟨rfl, rfl⟩]; exact Or.inr rfl
    · rw [hI_sI, if_neg (by omega), hI_sI, if_neg (by omega)]; exact h6
end S3
