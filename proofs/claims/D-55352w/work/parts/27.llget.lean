/-! LinkedList: an element by its place -/
theorem LL.n17 {γ : GP} {G : AH} {x i : Nat} {ns L : List Nat} (h : LL γ G x ns L) (hL9 : L.length < 10000000) (hi : i < L.length) : ∀ (n j : Nat), j ≤ i → i - j < n → f_J4_node_L17 γ (Int32.ofNat i) n (nd ns j) (Int32.ofNat j) G = some (nd ns i, G)
  | 0, _, _, h0 => absurd h0 (Nat.not_lt_zero _)
  | n + 1, j, hj, h0 => by
    have hl := h.2.2.1
    unfold f_J4_node_L17
    by_cases e : j = i
    · subst e
      rw [if_pos ((i_le (by omega) (by omega)).mpr (Nat.le_refl _))]
    · rw [if_neg (by rw [i_le (by omega) (by omega)]; omega)]
      obtain ⟨m1, m2, m3, m4, m5⟩ := h.2.2.2.2.2.2.2 j (by omega)
      unfold gR
      rw [if_pos (okf m1 (by decide)), m4, show (1 : Int32) = Int32.ofNat 1 from rfl, i_add]
      exact LL.n17 h hL9 hi n (j + 1) (by omega) (by omega)
theorem LL.n47 {γ : GP} {G : AH} {x i : Nat} {ns L : List Nat} (h : LL γ G x ns L) (hL9 : L.length < 10000000) (hi : i < L.length) : ∀ (n j : Nat), i ≤ j → j < L.length → j - i < n → f_J4_node_L47 γ (Int32.ofNat i) n (nd ns j) (Int32.ofNat j) G = some (nd ns i, G)
  | 0, _, _, _, h0 => absurd h0 (Nat.not_lt_zero _)
  | n + 1, j, hj, hjl, h0 => by
    have hl := h.2.2.1
    unfold f_J4_node_L47
    by_cases e : j = i
    · subst e
      rw [if_pos ((i_le (by omega) (by omega)).mpr (Nat.le_refl _))]
    · rw [if_neg (by rw [i_le (by omega) (by omega)]; omega)]
      obtain ⟨m1, m2, m3, m4, m5⟩ := h.2.2.2.2.2.2.2 j (by omega)
      unfold gR
      rw [if_pos (okf m1 (by decide)), m5, if_neg (by omega)]
      have e1 : Int32.ofNat j + (-1 : Int32) = Int32.ofNat (j - 1) := by
        rw [show (-1 : Int32) = -Int32.ofNat 1 from rfl, ← Int32.sub_eq_add_neg, i_sub (by omega)]
      rw [e1]
      exact LL.n47 h hL9 hi n (j - 1) (by omega) (by omega) (by omega)
theorem LL.node {γ : GP} {G : AH} {x i : Nat} {ns L : List Nat} (h : LL γ G x ns L) (hL9 : L.length < 10000000) (hi : i < L.length) : f_J4_node γ x (Int32.ofNat i) G = some (nd ns i, G) := by
  have hl := h.2.2.1
  have hFU : FU = 4294967296 := rfl
  unfold f_J4_node gI gR
  rw [if_pos (okf h.1 (by decide)), h.2.2.2.1]
  dsimp only
  rw [i_shr1 (by omega)]
  by_cases e : Int32.ofNat (L.length / 2) ≤ Int32.ofNat i
  · rw [if_pos e, if_pos (okf h.1 (by decide)), if_pos (okf h.1 (by decide)), show (1 : Int32) = Int32.ofNat 1 from rfl, i_sub (by omega), h.2.2.2.2.2.1, hl]
    exact h.n47 hL9 hi FU (L.length - 1) (by omega) (by omega) (by rw [hFU]; omega)
  · rw [if_neg e, if_pos (okf h.1 (by decide)), h.2.2.2.2.1]
    exact h.n17 hL9 hi FU 0 (Nat.zero_le _) (by rw [hFU]; omega)
theorem LL.get {γ : GP} {G : AH} {x i : Nat} {ns L : List Nat} (h : LL γ G x ns L) (hL9 : L.length < 10000000) (hi : i < L.length) : f_J4_get γ x (Int32.ofNat i) G = some (nd L i, G) := by
  have hl := h.2.2.1
  have hFU : FU = 4294967296 := rfl
  have ck : f_J4_checkElementIndex γ x (Int32.ofNat i) G = some G := by
    unfold f_J4_checkElementIndex
    rw [if_pos h.1]
    unfold f_J4_isElementIndex
    rw [if_neg (i_neg (by omega))]
    unfold gI
    rw [if_pos (okf h.1 (by decide)), h.2.2.2.1]
    dsimp only
    rw [if_neg (by rw [i_le (by omega) (by omega)]; omega)]
    rfl
  have nde := h.node hL9 hi
  obtain ⟨m1, m2, m3, m4, m5⟩ := h.2.2.2.2.2.2.2 i (by omega)
  unfold f_J4_get
  rw [if_pos h.1, ck, bV_some, if_pos h.1, nde, bR_some]
  unfold gR
  rw [if_pos (okf m1 (by decide)), m3]
