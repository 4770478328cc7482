set_option maxRecDepth 100000
/-! the accessors of the abstract heap's updates -/
theorem hS_sI (G : AH) (f a : Nat) (v : Int32) : hS (sI G f a v) = hS G := rfl
theorem hM_sI (G : AH) (f a : Nat) (v : Int32) : hM (sI G f a v) = hM G := rfl
theorem hK_sI (G : AH) (f a : Nat) (v : Int32) : hK (sI G f a v) = hK G := rfl
theorem hL_sI (G : AH) (f a : Nat) (v : Int32) : hL (sI G f a v) = hL G := rfl
theorem hR_sI (G : AH) (f a : Nat) (v : Int32) : hR (sI G f a v) = hR G := rfl
theorem hA_sI (G : AH) (f a : Nat) (v : Int32) : hA (sI G f a v) = hA G := rfl
theorem hQ_sI (G : AH) (f a : Nat) (v : Int32) : hQ (sI G f a v) = hQ G := rfl
theorem hJ_sI (G : AH) (f a : Nat) (v : Int32) : hJ (sI G f a v) = hJ G := rfl
theorem hD_sI (G : AH) (f a : Nat) (v : Int32) : hD (sI G f a v) = hD G := rfl
theorem hI_sI (G : AH) (f a : Nat) (v : Int32) (x y : Nat) : hI (sI G f a v) x y = if x = f ∧ y = a then v else hI G x y := rfl
theorem hS_sR (G : AH) (f a : Nat) (v : Nat) : hS (sR G f a v) = hS G := rfl
theorem hM_sR (G : AH) (f a : Nat) (v : Nat) : hM (sR G f a v) = hM G := rfl
theorem hK_sR (G : AH) (f a : Nat) (v : Nat) : hK (sR G f a v) = hK G := rfl
theorem hL_sR (G : AH) (f a : Nat) (v : Nat) : hL (sR G f a v) = hL G := rfl
theorem hI_sR (G : AH) (f a : Nat) (v : Nat) : hI (sR G f a v) = hI G := rfl
theorem hA_sR (G : AH) (f a : Nat) (v : Nat) : hA (sR G f a v) = hA G := rfl
theorem hQ_sR (G : AH) (f a : Nat) (v : Nat) : hQ (sR G f a v) = hQ G := rfl
theorem hJ_sR (G : AH) (f a : Nat) (v : Nat) : hJ (sR G f a v) = hJ G := rfl
theorem hD_sR (G : AH) (f a : Nat) (v : Nat) : hD (sR G f a v) = hD G := rfl
theorem hR_sR (G : AH) (f a : Nat) (v : Nat) (x y : Nat) : hR (sR G f a v) x y = if x = f ∧ y = a then v else hR G x y := rfl
theorem hS_sA (G : AH) (a i : Nat) (v : Int32) : hS (sA G a i v) = hS G := rfl
theorem hM_sA (G : AH) (a i : Nat) (v : Int32) : hM (sA G a i v) = hM G := rfl
theorem hK_sA (G : AH) (a i : Nat) (v : Int32) : hK (sA G a i v) = hK G := rfl
theorem hL_sA (G : AH) (a i : Nat) (v : Int32) : hL (sA G a i v) = hL G := rfl
theorem hI_sA (G : AH) (a i : Nat) (v : Int32) : hI (sA G a i v) = hI G := rfl
theorem hR_sA (G : AH) (a i : Nat) (v : Int32) : hR (sA G a i v) = hR G := rfl
theorem hQ_sA (G : AH) (a i : Nat) (v : Int32) : hQ (sA G a i v) = hQ G := rfl
theorem hJ_sA (G : AH) (a i : Nat) (v : Int32) : hJ (sA G a i v) = hJ G := rfl
theorem hD_sA (G : AH) (a i : Nat) (v : Int32) : hD (sA G a i v) = hD G := rfl
theorem hA_sA (G : AH) (a i : Nat) (v : Int32) (x y : Nat) : hA (sA G a i v) x y = if x = a ∧ y = i then v else hA G x y := rfl
theorem hS_sQ (G : AH) (a i : Nat) (v : Nat) : hS (sQ G a i v) = hS G := rfl
theorem hM_sQ (G : AH) (a i : Nat) (v : Nat) : hM (sQ G a i v) = hM G := rfl
theorem hK_sQ (G : AH) (a i : Nat) (v : Nat) : hK (sQ G a i v) = hK G := rfl
theorem hL_sQ (G : AH) (a i : Nat) (v : Nat) : hL (sQ G a i v) = hL G := rfl
theorem hI_sQ (G : AH) (a i : Nat) (v : Nat) : hI (sQ G a i v) = hI G := rfl
theorem hR_sQ (G : AH) (a i : Nat) (v : Nat) : hR (sQ G a i v) = hR G := rfl
theorem hA_sQ (G : AH) (a i : Nat) (v : Nat) : hA (sQ G a i v) = hA G := rfl
theorem hJ_sQ (G : AH) (a i : Nat) (v : Nat) : hJ (sQ G a i v) = hJ G := rfl
theorem hD_sQ (G : AH) (a i : Nat) (v : Nat) : hD (sQ G a i v) = hD G := rfl
theorem hQ_sQ (G : AH) (a i : Nat) (v : Nat) (x y : Nat) : hQ (sQ G a i v) x y = if x = a ∧ y = i then v else hQ G x y := rfl
theorem hS_sJ (G : AH) (a i : Nat) (v : Int64) : hS (sJ G a i v) = hS G := rfl
theorem hM_sJ (G : AH) (a i : Nat) (v : Int64) : hM (sJ G a i v) = hM G := rfl
theorem hK_sJ (G : AH) (a i : Nat) (v : Int64) : hK (sJ G a i v) = hK G := rfl
theorem hL_sJ (G : AH) (a i : Nat) (v : Int64) : hL (sJ G a i v) = hL G := rfl
theorem hI_sJ (G : AH) (a i : Nat) (v : Int64) : hI (sJ G a i v) = hI G := rfl
theorem hR_sJ (G : AH) (a i : Nat) (v : Int64) : hR (sJ G a i v) = hR G := rfl
theorem hA_sJ (G : AH) (a i : Nat) (v : Int64) : hA (sJ G a i v) = hA G := rfl
theorem hQ_sJ (G : AH) (a i : Nat) (v : Int64) : hQ (sJ G a i v) = hQ G := rfl
theorem hD_sJ (G : AH) (a i : Nat) (v : Int64) : hD (sJ G a i v) = hD G := rfl
theorem hJ_sJ (G : AH) (a i : Nat) (v : Int64) (x y : Nat) : hJ (sJ G a i v) x y = if x = a ∧ y = i then v else hJ G x y := rfl
theorem hS_sD (G : AH) (a i : Nat) (v : UInt64) : hS (sD G a i v) = hS G := rfl
theorem hM_sD (G : AH) (a i : Nat) (v : UInt64) : hM (sD G a i v) = hM G := rfl
theorem hK_sD (G : AH) (a i : Nat) (v : UInt64) : hK (sD G a i v) = hK G := rfl
theorem hL_sD (G : AH) (a i : Nat) (v : UInt64) : hL (sD G a i v) = hL G := rfl
theorem hI_sD (G : AH) (a i : Nat) (v : UInt64) : hI (sD G a i v) = hI G := rfl
theorem hR_sD (G : AH) (a i : Nat) (v : UInt64) : hR (sD G a i v) = hR G := rfl
theorem hA_sD (G : AH) (a i : Nat) (v : UInt64) : hA (sD G a i v) = hA G := rfl
theorem hQ_sD (G : AH) (a i : Nat) (v : UInt64) : hQ (sD G a i v) = hQ G := rfl
theorem hJ_sD (G : AH) (a i : Nat) (v : UInt64) : hJ (sD G a i v) = hJ G := rfl
theorem hD_sD (G : AH) (a i : Nat) (v : UInt64) (x y : Nat) : hD (sD G a i v) x y = if x = a ∧ y = i then v else hD G x y := rfl
theorem hS_sAr (G : AH) (a : Nat) (g : Nat → Int32) : hS (sAr G a g) = hS G := rfl
theorem hM_sAr (G : AH) (a : Nat) (g : Nat → Int32) : hM (sAr G a g) = hM G := rfl
theorem hK_sAr (G : AH) (a : Nat) (g : Nat → Int32) : hK (sAr G a g) = hK G := rfl
theorem hL_sAr (G : AH) (a : Nat) (g : Nat → Int32) : hL (sAr G a g) = hL G := rfl
theorem hI_sAr (G : AH) (a : Nat) (g : Nat → Int32) : hI (sAr G a g) = hI G := rfl
theorem hR_sAr (G : AH) (a : Nat) (g : Nat → Int32) : hR (sAr G a g) = hR G := rfl
theorem hQ_sAr (G : AH) (a : Nat) (g : Nat → Int32) : hQ (sAr G a g) = hQ G := rfl
theorem hJ_sAr (G : AH) (a : Nat) (g : Nat → Int32) : hJ (sAr G a g) = hJ G := rfl
theorem hD_sAr (G : AH) (a : Nat) (g : Nat → Int32) : hD (sAr G a g) = hD G := rfl
theorem hA_sAr (G : AH) (a : Nat) (g : Nat → Int32) (x : Nat) : hA (sAr G a g) x = if x = a then g else hA G x := rfl
theorem hS_sQr (G : AH) (a : Nat) (g : Nat → Nat) : hS (sQr G a g) = hS G := rfl
theorem hM_sQr (G : AH) (a : Nat) (g : Nat → Nat) : hM (sQr G a g) = hM G := rfl
theorem hK_sQr (G : AH) (a : Nat) (g : Nat → Nat) : hK (sQr G a g) = hK G := rfl
theorem hL_sQr (G : AH) (a : Nat) (g : Nat → Nat) : hL (sQr G a g) = hL G := rfl
theorem hI_sQr (G : AH) (a : Nat) (g : Nat → Nat) : hI (sQr G a g) = hI G := rfl
theorem hR_sQr (G : AH) (a : Nat) (g : Nat → Nat) : hR (sQr G a g) = hR G := rfl
theorem hA_sQr (G : AH) (a : Nat) (g : Nat → Nat) : hA (sQr G a g) = hA G := rfl
theorem hJ_sQr (G : AH) (a : Nat) (g : Nat → Nat) : hJ (sQr G a g) = hJ G := rfl
theorem hD_sQr (G : AH) (a : Nat) (g : Nat → Nat) : hD (sQr G a g) = hD G := rfl
theorem hQ_sQr (G : AH) (a : Nat) (g : Nat → Nat) (x : Nat) : hQ (sQr G a g) x = if x = a then g else hQ G x := rfl
theorem hS_nO (G : AH) (c n : Nat) : hS (nO G c n) = hS G + 1 := rfl
theorem hM_nO (G : AH) (c n : Nat) : hM (nO G c n) = hM G + n := rfl
theorem hK_nO (G : AH) (c n x : Nat) : hK (nO G c n) x = if x = hS G then c else hK G x := rfl
theorem hL_nO (G : AH) (c n : Nat) : hL (nO G c n) = hL G := rfl
theorem hI_nO (G : AH) (c n f x : Nat) : hI (nO G c n) f x = if x = hS G then 0 else hI G f x := rfl
theorem hR_nO (G : AH) (c n f x : Nat) : hR (nO G c n) f x = if x = hS G then 0 else hR G f x := rfl
theorem hA_nO (G : AH) (c n : Nat) : hA (nO G c n) = hA G := rfl
theorem hQ_nO (G : AH) (c n : Nat) : hQ (nO G c n) = hQ G := rfl
theorem hJ_nO (G : AH) (c n : Nat) : hJ (nO G c n) = hJ G := rfl
theorem hD_nO (G : AH) (c n : Nat) : hD (nO G c n) = hD G := rfl
theorem hS_nA (G : AH) (k n : Nat) : hS (nA G k n) = hS G + 1 := rfl
theorem hM_nA (G : AH) (k n : Nat) : hM (nA G k n) = hM G + n := rfl
theorem hK_nA (G : AH) (k n x : Nat) : hK (nA G k n) x = if x = hS G then k else hK G x := rfl
theorem hL_nA (G : AH) (k n x : Nat) : hL (nA G k n) x = if x = hS G then n else hL G x := rfl
theorem hI_nA (G : AH) (k n : Nat) : hI (nA G k n) = hI G := rfl
theorem hR_nA (G : AH) (k n : Nat) : hR (nA G k n) = hR G := rfl
theorem hA_nA (G : AH) (k n x : Nat) : hA (nA G k n) x = if x = hS G then (fun _ => 0) else hA G x := rfl
theorem hQ_nA (G : AH) (k n x : Nat) : hQ (nA G k n) x = if x = hS G then (fun _ => 0) else hQ G x := rfl
theorem hJ_nA (G : AH) (k n x : Nat) : hJ (nA G k n) x = if x = hS G then (fun _ => 0) else hJ G x := rfl
theorem hD_nA (G : AH) (k n x : Nat) : hD (nA G k n) x = if x = hS G then (fun _ => 0) else hD G x := rfl
/-! ends of the functions: x comes to an answer that Q says -/
def wp {β : Type} (x : Option β) (Q : β → Prop) : Prop := ∃ r, x = some r ∧ Q r
section WP
variable {β δ : Type} {Q : β → Prop} {γ : GP} {G : AH}
theorem wp_some {r : β} (h : Q r) : wp (some r) Q := ⟨r, rfl, h⟩
theorem wp_mono {x : Option β} {P : β → Prop} (h : wp x P) (hq : ∀ r, P r → Q r) : wp x Q := by
  obtain ⟨r, e, p⟩ := h
  exact ⟨r, e, hq r p⟩
theorem wp_ifc {P : Prop} [Decidable P] {x : Option β} (hP : P) (h : wp x Q) : wp (if P then x else none) Q := by
  rw [if_pos hP]; exact h
theorem wp_ite {P : Prop} [Decidable P] {x y : Option β} (h1 : P → wp x Q) (h2 : ¬ P → wp y Q) : wp (if P then x else y) Q := by
  by_cases hP : P
  · rw [if_pos hP]; exact h1 hP
  · rw [if_neg hP]; exact h2 hP
theorem wp_jn {A : Type} {j : A} {K : A → Option β} (h : wp (K j) Q) : wp (jn j K) Q := h
theorem wp_gI {a f : Nat} {K : Int32 → Option β} (h0 : okF G a f) (h : wp (K (hI G f a)) Q) : wp (gI G a f K) Q := wp_ifc h0 h
theorem wp_gR {a f : Nat} {K : Nat → Option β} (h0 : okF G a f) (h : wp (K (hR G f a)) Q) : wp (gR G a f K) Q := wp_ifc h0 h
theorem wp_pI {a f : Nat} {v : Int32} {K : AH → Option β} (h0 : okW γ G a f ∧ narrow (fTy f) (.int v) = .int v ∧ fits (fTy f) (.int v) = true) (h : wp (K (sI G f a v)) Q) : wp (pI γ G a f v K) Q := wp_ifc h0 h
theorem wp_pR {a f : Nat} {v : Nat} {K : AH → Option β} (h0 : okW γ G a f) (h : wp (K (sR G f a v)) Q) : wp (pR γ G a f v K) Q := wp_ifc h0 h
theorem wp_mO {c : Nat} {K : Nat → AH → Option β} (h : wp (K (hS G) (nO G c (cInst c))) Q) : wp (mO G c K) Q := h
theorem wp_mA {kd : Nat} {n : Int32} {K : Nat → AH → Option β} (h0 : ¬ n < 0 ∧ n.toNatClampNeg ≤ 60000000) (h : wp (K (hS G) (nA G kd n.toNatClampNeg)) Q) : wp (mA G kd n K) Q := wp_ifc h0 h
theorem wp_gA {kd a : Nat} {i : Int32} {K : Int32 → Option β} (h0 : okX G a kd i) (h : wp (K (hA G a i.toNatClampNeg)) Q) : wp (gA G kd a i K) Q := wp_ifc h0 h
theorem wp_gQ {kd a : Nat} {i : Int32} {K : Nat → Option β} (h0 : okX G a kd i) (h : wp (K (hQ G a i.toNatClampNeg)) Q) : wp (gQ G kd a i K) Q := wp_ifc h0 h
theorem wp_pA {kd a : Nat} {i v : Int32} {K : AH → Option β} (h0 : okXW γ G a kd i) (h : wp (K (sA G a i.toNatClampNeg (vN (aTy kd) v))) Q) : wp (pA γ G kd a i v K) Q := wp_ifc h0 h
theorem wp_pQ {a : Nat} {i : Int32} {v : Nat} {K : AH → Option β} (h0 : okXW γ G a 106 i ∧ hK G v ∈ stO) (h : wp (K (sQ G a i.toNatClampNeg v)) Q) : wp (pQ γ G a i v K) Q := wp_ifc h0 h
theorem wp_gL {a : Nat} {K : Int32 → Option β} (h0 : 100 ≤ hK G a) (h : wp (K (Int32.ofNat (hL G a))) Q) : wp (gL G a K) Q := wp_ifc h0 h
theorem wp_gC {L : List Nat} {a : Nat} {x : Option β} (h0 : a = 0 ∨ okC G L a) (h : wp x Q) : wp (gC G L a x) Q := wp_ifc h0 h
theorem wp_gCA {kd a : Nat} {x : Option β} (h0 : hK G a = kd) (h : wp x Q) : wp (gCA G kd a x) Q := wp_ifc h0 h
theorem wp_bind {δ : Type} {x : Option δ} {K : δ → Option β} (h : wp x (fun r => wp (K r) Q)) : wp (x.bind K) Q := by
  obtain ⟨r, e, r2, e2, q⟩ := h
  exact ⟨r2, by rw [e]; exact e2, q⟩
theorem wp_bI {x : Option (Int32 × AH)} {K : Int32 → AH → Option β} (h : wp x (fun r => wp (K r.1 r.2) Q)) : wp (bI x K) Q := wp_bind h
theorem wp_bR {x : Option (Nat × AH)} {K : Nat → AH → Option β} (h : wp x (fun r => wp (K r.1 r.2) Q)) : wp (bR x K) Q := wp_bind h
theorem wp_bV {x : Option AH} {K : AH → Option β} (h : wp x (fun r => wp (K r) Q)) : wp (bV x K) Q := wp_bind h
end WP
