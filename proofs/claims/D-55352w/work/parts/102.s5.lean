/-! constant Strings; hashes, equality, appended Strings, a String within another -/
def hsh (l : List Nat) : Int32 := l.foldl (fun h c => (31 : Int32) * h + Int32.ofNat c) 0
def wd : Nat → List Nat
  | 0 => [97, 115, 107]
  | 1 => [99, 97, 110, 99, 101, 108]
  | 2 => [102, 97, 105, 110, 116]
  | 3 => [119, 97, 107, 101]
  | 4 => [108, 101, 97, 114, 110]
  | _ => [119, 97, 105, 116]
def WORDS : List Nat := [32] ++ wd 0 ++ [32] ++ wd 1 ++ [32] ++ wd 2 ++ [32] ++ wd 3 ++ [32] ++ wd 4 ++ [32] ++ wd 5 ++ [32]
def txt : Nat → List Nat
  | 13 => wd 0
  | 14 => wd 0
  | 15 => wd 1
  | 16 => wd 2
  | 17 => wd 3
  | 18 => wd 4
  | 19 => wd 1
  | 20 => wd 2
  | 21 => wd 3
  | 22 => wd 4
  | 23 => wd 5
  | 24 => WORDS
  | 25 => [32]
  | 26 => wd 2
  | 27 => wd 3
  | 28 => wd 4
  | 29 => wd 5
  | 30 => [104, 111, 115, 116]
  | 31 => [59]
  | 32 => [112, 97, 115, 99]
  | 34 => wd 0 ++ [32, 95] ++ wd 1 ++ [32, 95] ++ wd 2 ++ [32, 95] ++ wd 3 ++ [32, 95] ++ wd 4 ++ [32, 95] ++ wd 5 ++ [32, 95]
  | 35 => wd 0 ++ [32]
  | 36 => wd 1 ++ [32]
  | 37 => wd 2 ++ [32]
  | 38 => wd 3 ++ [32]
  | 39 => wd 4 ++ [32]
  | 40 => [104, 111, 115, 116, 95]
  | 41 => [112, 97, 115, 99]
  | 42 => [46, 63, 45, 43, 120]
  | _ => []
def CoT (γ : GP) (B : AH) : Prop :=
  (∀ i, 12 ≤ i → i < 43 → γ.1 i ≤ γ.2 ∧ hR B 26 (γ.1 i) ≤ γ.2 ∧ hK B (γ.1 i) = 7 ∧ hI B 27 (γ.1 i) = 0 ∧ hK B (hR B 26 (γ.1 i)) = 102 ∧ hL B (hR B 26 (γ.1 i)) = (txt i).length ∧ hI B 28 (γ.1 i) = hsh (txt i) ∧ ∀ k, k < (txt i).length → hA B (hR B 26 (γ.1 i)) k = b8 (nd (txt i) k)) ∧
  γ.1 4 ≤ γ.2 ∧ hK B (γ.1 4) = 102 ∧ hL B (γ.1 4) = 100 ∧ ∀ d, d < 10 → hA B (γ.1 4) d = b8 (48 + d)
def CnS (γ : GP) (G : AH) : Prop := ∃ B, CoT γ B ∧ Low γ B G
theorem txt_ok : ∀ i : Fin 43, (txt i.val).length ≤ 1000 ∧ ∀ c ∈ txt i.val, c < 256 := by decide
theorem CnS.keep {γ : GP} {G G1 : AH} {P : Nat → Prop} (h : CnS γ G) (hF : Fc P G G1) (hp : ∀ a, P a → γ.2 < a) : CnS γ G1 := by
  obtain ⟨B, h1, h2⟩ := h
  exact ⟨B, h1, h2.keep hF hp⟩
theorem CnS.str {γ : GP} {G : AH} (h : CnS γ G) {i : Nat} (h12 : 12 ≤ i) (h43 : i < 43) : ∃ a, StrX γ G (γ.1 i) 0 a (txt i) ∧ hI G 28 (γ.1 i) = hsh (txt i) ∧ γ.1 i ≤ γ.2 ∧ a ≤ γ.2 := by
  obtain ⟨B, h1, h2⟩ := h
  obtain ⟨c1, c2, c3, c4, c5, c6, c7, c8⟩ := h1.1 i h12 h43
  have k := h2.2 _ c1
  have k2 := h2.2 _ c2
  have t := txt_ok ⟨i, h43⟩
  refine ⟨hR B 26 (γ.1 i), ⟨by rw [k.1]; exact c3, by decide, by rw [k.2.2.1]; exact c4, k.2.2.2.1 26 (by decide) (by decide), by rw [k2.2.1, c6]; show _ = (txt i).length * (0 + 1); omega, t.1, by rw [k2.1]; exact c5, fun j hj => ⟨fun _ => ⟨t.2 _ (nd_mem hj), ?_⟩, fun q => absurd q (by decide)⟩⟩, by rw [k.2.2.1]; exact c7, c1, c2⟩
  rw [k2.2.2.2.2.1]
  exact c8 j hj
theorem CnS.dig {γ : GP} {G : AH} (h : CnS γ G) : hK G (γ.1 4) = 102 ∧ hL G (γ.1 4) = 100 ∧ γ.1 4 ≤ γ.2 ∧ ∀ d, d < 10 → hA G (γ.1 4) d = b8 (48 + d) := by
  obtain ⟨B, h1, h2⟩ := h
  obtain ⟨c1, c2, c3, c4⟩ := h1.2
  have k := h2.2 _ c1
  exact ⟨by rw [k.1]; exact c2, by rw [k.2.1]; exact c3, c1, fun d hd => by rw [k.2.2.2.2.1]; exact c4 d hd⟩
section S5
variable {γ : GP} {G G1 : AH} {x cd C a : Nat} {l : List Nat}
theorem hsh_snoc (l : List Nat) (c : Nat) : hsh (l ++ [c]) = (31 : Int32) * hsh l + Int32.ofNat c := by
  unfold hsh
  rw [List.foldl_append]; rfl
theorem hashLoop (hB : BytR G a 0 l) (hL1 : hL G a = l.length) (h9 : l.length ≤ 1000) (n : Nat) : ∀ i, l.length - i < n → i ≤ l.length →
    f_J15_signedHashCode_L8 γ a (Int32.ofNat l.length) n (hsh (l.take i)) (Int32.ofNat i) G = some (hsh l, G) := by
  induction n with
  | zero => intro i h; exact absurd h (Nat.not_lt_zero _)
  | succ n ih =>
    intro i hn hi
    unfold f_J15_signedHashCode_L8
    by_cases c : l.length ≤ i
    · rw [if_pos ((i_le (by omega) (by omega)).mpr c), List.take_of_length_le (by omega)]
    · rw [if_neg (fun e => c ((i_le (by omega) (by omega)).mp e))]
      have b := (hB.2 i (by omega)).1 rfl
      rw [gA_ok (okx hB.1 hL1 (by omega) (by omega)), i_nat (by omega), b.2, b8_and, Nat.mod_eq_of_lt b.1, i_one]
      have et : l.take (i + 1) = l.take i ++ [nd l i] := by
        rw [List.take_add_one, List.getElem?_eq_getElem (by omega), nd_get (by omega)]; rfl
      rw [← hsh_snoc, ← et]
      exact ih (i + 1) (by omega) (by omega)
theorem StrX.hash (h : StrX γ G x 0 a l) (hw : Wf G) (h2 : 2 ≤ l.length) (hn : hsh l ≠ 0) (hh : hI G 28 x = hsh l ∨ (γ.2 < x ∧ hI G 28 x = 0 ∧ hI G 29 x = 0)) :
    wp (f_J7_hashCode γ x G) (fun r => r.1 = hsh l ∧ StrX γ r.2 x 0 a l ∧ hI r.2 28 x = hsh l ∧ Fr (fun b => b = x ∧ γ.2 < b) G r.2 ∧ Wf r.2 ∧ hS r.2 = hS G ∧ hM r.2 = hM G) := by
  have h' := h
  obtain ⟨k1, k2, k3, k4, k5, k6, k7⟩ := h'
  rw [show l.length * (0 + 1) = l.length by omega] at k5
  unfold f_J7_hashCode
  refine wp_gI (okf k1 (by decide)) ?_
  rcases hh with e | ⟨e1, e2, e3⟩
  · rw [e, if_neg hn]
    exact wp_some ⟨rfl, h, e, Fr.refl _ _, hw, rfl, rfl⟩
  · rw [e2, if_pos rfl]
    refine wp_gI (okf k1 (by decide)) ?_
    rw [e3, if_pos rfl, if_pos k1, h.isLatin, bI_s]
    refine wp_jn ?_
    rw [if_pos rfl, if_neg (show ¬ ((1 : Int32) = 0) by decide)]
    refine wp_gR (okf k1 (by decide)) ?_
    rw [k4]
    have hj : f_J19_hashCode γ a G = some (hsh l, G) := by
      unfold f_J19_hashCode
      rw [gL_ok (by rw [k7.1]; decide), k5, if_neg (by rw [show (0 : Int32) = Int32.ofNat 0 from rfl, i_eq (by omega) (by decide)]; omega), if_neg (by rw [show (1 : Int32) = Int32.ofNat 1 from rfl, i_eq (by omega) (by decide)]; omega), gL_ok (by rw [k7.1]; decide), k5]
      unfold f_J15_vectorizedHashCode gCA
      rw [if_pos rfl, if_pos k7.1]
      unfold f_J15_signedHashCode
      rw [show (0 : Int32) + Int32.ofNat l.length = Int32.ofNat l.length from by rw [show (0 : Int32) = Int32.ofNat 0 from rfl, i_add, Nat.zero_add]]
      have := hashLoop (γ := γ) k7 k5 k6 FU 0 (by show _ < 4294967296; omega) (Nat.zero_le _)
      rw [List.take_zero] at this
      have e0 : f_J15_signedHashCode_L8 γ a (Int32.ofNat l.length) FU 0 0 G = some (hsh l, G) := this
      rw [e0]; rfl
    rw [hj, bI_s]
    dsimp only
    rw [if_neg hn]
    refine wp_pI ⟨okw k1 (by decide) e1, rfl, rfl⟩ (wp_some ⟨rfl, ⟨k1, k2, ?_, k4, by rw [show l.length * (0 + 1) = l.length by omega]; exact k5, k6, k7⟩, ?_, (Fr.refl _ _).sI (Or.inl ⟨rfl, e1⟩), hw.sI, rfl, rfl⟩)
    · rw [hI_sI, if_neg (by omega)]; exact k3
    · rw [hI_sI, if_pos ⟨rfl, rfl⟩]
theorem eqLoop {b : Nat} (hA1 : BytR G a 0 l) (hB : BytR G b 0 l) (hL1 : hL G a = l.length) (hL2 : hL G b = l.length) (h9 : l.length ≤ 1000) (n : Nat) : ∀ i, l.length - i < n → i ≤ l.length →
    f_J19_equals_L9 γ a b n (Int32.ofNat i) G = some (1, G) := by
  induction n with
  | zero => intro i h; exact absurd h (Nat.not_lt_zero _)
  | succ n ih =>
    intro i hn hi
    unfold f_J19_equals_L9
    rw [gL_ok (by rw [hA1.1]; decide), hL1]
    by_cases c : l.length ≤ i
    · rw [if_pos ((i_le (by omega) (by omega)).mpr c), rtN_z (Or.inr rfl)]
    · rw [if_neg (fun e => c ((i_le (by omega) (by omega)).mp e)), gA_ok (okx hA1.1 hL1 (by omega) (by omega)), gA_ok (okx hB.1 hL2 (by omega) (by omega)), i_nat (by omega), ((hA1.2 i (by omega)).1 rfl).2, ((hB.2 i (by omega)).1 rfl).2, if_pos rfl, i_one]
      exact ih (i + 1) (by omega) (by omega)
theorem StrX.equals {y b : Nat} (h : StrX γ G x 0 a l) (k : StrX γ G y 0 b l) (ye : y ≠ 0) : f_J7_equals γ x y G = some (1, G) := by
  have h' := h
  obtain ⟨h1, h2, h3, h4, h5, h6, h7⟩ := h
  obtain ⟨k1, k2, k3, k4, k5, k6, k7⟩ := k
  unfold f_J7_equals
  by_cases e : x = y
  · rw [if_pos e, rtN_z (Or.inr rfl)]
  · rw [if_neg e]
    unfold gInst
    rw [if_pos ⟨ye, okc k1 (by decide)⟩]
    dsimp only
    rw [if_neg (show ¬ ((1 : Int32) = 0) by decide), gC_ok (Or.inr (okc k1 (by decide)))]
    unfold jn
    dsimp only
    rw [if_neg (show ¬ ((1 : Int32) = 0) by decide), gI_ok (okf h1 (by decide)), gI_ok (okf k1 (by decide)), h3, k3, if_pos rfl, gR_ok (okf h1 (by decide)), gR_ok (okf k1 (by decide)), h4, k4]
    unfold f_J19_equals
    rw [gL_ok (by rw [h7.1]; decide), gL_ok (by rw [k7.1]; decide), h5, k5, if_pos rfl]
    have := eqLoop (γ := γ) h7 k7 (by omega) (by omega) h6 FU 0 (by show _ < 4294967296; omega) (Nat.zero_le _)
    have e0 : f_J19_equals_L9 γ a b FU 0 G = some (1, G) := this
    rw [e0, bI_s, if_neg (by decide), rtN_z (Or.inr rfl)]
end S5
