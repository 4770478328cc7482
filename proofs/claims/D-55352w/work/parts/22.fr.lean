/-! what a step leaves as it was -/
def same (a : Nat) (G G' : AH) : Prop := (∀ f, hI G' f a = hI G f a) ∧ (∀ f, hR G' f a = hR G f a) ∧ hA G' a = hA G a ∧ hQ G' a = hQ G a ∧ hJ G' a = hJ G a ∧ hD G' a = hD G a
theorem same.refl (a : Nat) (G : AH) : same a G G := ⟨fun _ => rfl, fun _ => rfl, rfl, rfl, rfl, rfl⟩
theorem same.trans {a : Nat} {G G1 G2 : AH} (h : same a G G1) (k : same a G1 G2) : same a G G2 :=
  ⟨fun f => (k.1 f).trans (h.1 f), fun f => (k.2.1 f).trans (h.2.1 f), k.2.2.1.trans h.2.2.1, k.2.2.2.1.trans h.2.2.2.1, k.2.2.2.2.1.trans h.2.2.2.2.1, k.2.2.2.2.2.trans h.2.2.2.2.2⟩
/-- from G to G' only the addresses of P and new ones were written; kinds and lengths stay -/
def Fr (P : Nat → Prop) (G G' : AH) : Prop := hS G ≤ hS G' ∧ hM G ≤ hM G' ∧ (∀ a, a < hS G → hK G' a = hK G a ∧ hL G' a = hL G a) ∧ ∀ a, a < hS G → ¬ P a → same a G G'
def Wf (G : AH) : Prop := 0 < hS G ∧ ∀ a, hK G a ≠ 0 → 0 < a ∧ a < hS G
theorem Fr.refl (P : Nat → Prop) (G : AH) : Fr P G G := ⟨Nat.le_refl _, Nat.le_refl _, fun _ _ => ⟨rfl, rfl⟩, fun a _ _ => same.refl a G⟩
theorem Fr.trans {P Q : Nat → Prop} {G G1 G2 : AH} (h : Fr P G G1) (k : Fr Q G1 G2) (hq : ∀ a, Q a → P a ∨ hS G ≤ a) : Fr P G G2 :=
  ⟨Nat.le_trans h.1 k.1, Nat.le_trans h.2.1 k.2.1, fun a ha => ⟨(k.2.2.1 a (Nat.lt_of_lt_of_le ha h.1)).1.trans (h.2.2.1 a ha).1, (k.2.2.1 a (Nat.lt_of_lt_of_le ha h.1)).2.trans (h.2.2.1 a ha).2⟩,
    fun a ha hp => (h.2.2.2 a ha hp).trans (k.2.2.2 a (Nat.lt_of_lt_of_le ha h.1) (fun hQ => by rcases hq a hQ with h1 | h1; exact hp h1; omega))⟩
theorem Fr.mono {P Q : Nat → Prop} {G G1 : AH} (h : Fr P G G1) (hq : ∀ a, a < hS G → P a → Q a) : Fr Q G G1 :=
  ⟨h.1, h.2.1, h.2.2.1, fun a ha hp => h.2.2.2 a ha (fun hP => hp (hq a ha hP))⟩
theorem same_sI {G : AH} (f a : Nat) (v : Int32) {x : Nat} (hxa : ¬ x = a) : same x G (sI G f a v) := ⟨fun f2 => by rw [hI_sI, if_neg (fun h => hxa h.2)], fun _ => rfl, rfl, rfl, rfl, rfl⟩
theorem Fr.sI {P : Nat → Prop} {G G1 : AH} (h : Fr P G G1) {f a : Nat} {v : Int32} (ha : P a ∨ hS G ≤ a) : Fr P G (sI G1 f a v) :=
  ⟨h.1, h.2.1, fun x hx => ⟨(h.2.2.1 x hx).1, (h.2.2.1 x hx).2⟩, fun x hx hp => (h.2.2.2 x hx hp).trans (same_sI f a v (fun e => by subst e; rcases ha with h1 | h1; exact hp h1; omega))⟩
theorem Wf.sI {G : AH} (h : Wf G) {f a : Nat} {v : Int32} : Wf (sI G f a v) := h
theorem same_sR {G : AH} (f a : Nat) (v : Nat) {x : Nat} (hxa : ¬ x = a) : same x G (sR G f a v) := ⟨fun _ => rfl, fun f2 => by rw [hR_sR, if_neg (fun h => hxa h.2)], rfl, rfl, rfl, rfl⟩
theorem Fr.sR {P : Nat → Prop} {G G1 : AH} (h : Fr P G G1) {f a : Nat} {v : Nat} (ha : P a ∨ hS G ≤ a) : Fr P G (sR G1 f a v) :=
  ⟨h.1, h.2.1, fun x hx => ⟨(h.2.2.1 x hx).1, (h.2.2.1 x hx).2⟩, fun x hx hp => (h.2.2.2 x hx hp).trans (same_sR f a v (fun e => by subst e; rcases ha with h1 | h1; exact hp h1; omega))⟩
theorem Wf.sR {G : AH} (h : Wf G) {f a : Nat} {v : Nat} : Wf (sR G f a v) := h
theorem same_sA {G : AH} (a i : Nat) (v : Int32) {x : Nat} (hxa : ¬ x = a) : same x G (sA G a i v) := ⟨fun _ => rfl, fun _ => rfl, funext fun i2 => by rw [hA_sA, if_neg (fun h => hxa h.1)], rfl, rfl, rfl⟩
theorem Fr.sA {P : Nat → Prop} {G G1 : AH} (h : Fr P G G1) {a i : Nat} {v : Int32} (ha : P a ∨ hS G ≤ a) : Fr P G (sA G1 a i v) :=
  ⟨h.1, h.2.1, fun x hx => ⟨(h.2.2.1 x hx).1, (h.2.2.1 x hx).2⟩, fun x hx hp => (h.2.2.2 x hx hp).trans (same_sA a i v (fun e => by subst e; rcases ha with h1 | h1; exact hp h1; omega))⟩
theorem Wf.sA {G : AH} (h : Wf G) {a i : Nat} {v : Int32} : Wf (sA G a i v) := h
theorem same_sQ {G : AH} (a i : Nat) (v : Nat) {x : Nat} (hxa : ¬ x = a) : same x G (sQ G a i v) := ⟨fun _ => rfl, fun _ => rfl, rfl, funext fun i2 => by rw [hQ_sQ, if_neg (fun h => hxa h.1)], rfl, rfl⟩
theorem Fr.sQ {P : Nat → Prop} {G G1 : AH} (h : Fr P G G1) {a i : Nat} {v : Nat} (ha : P a ∨ hS G ≤ a) : Fr P G (sQ G1 a i v) :=
  ⟨h.1, h.2.1, fun x hx => ⟨(h.2.2.1 x hx).1, (h.2.2.1 x hx).2⟩, fun x hx hp => (h.2.2.2 x hx hp).trans (same_sQ a i v (fun e => by subst e; rcases ha with h1 | h1; exact hp h1; omega))⟩
theorem Wf.sQ {G : AH} (h : Wf G) {a i : Nat} {v : Nat} : Wf (sQ G a i v) := h
theorem same_sJ {G : AH} (a i : Nat) (v : Int64) {x : Nat} (hxa : ¬ x = a) : same x G (sJ G a i v) := ⟨fun _ => rfl, fun _ => rfl, rfl, rfl, funext fun i2 => by rw [hJ_sJ, if_neg (fun h => hxa h.1)], rfl⟩
theorem Fr.sJ {P : Nat → Prop} {G G1 : AH} (h : Fr P G G1) {a i : Nat} {v : Int64} (ha : P a ∨ hS G ≤ a) : Fr P G (sJ G1 a i v) :=
  ⟨h.1, h.2.1, fun x hx => ⟨(h.2.2.1 x hx).1, (h.2.2.1 x hx).2⟩, fun x hx hp => (h.2.2.2 x hx hp).trans (same_sJ a i v (fun e => by subst e; rcases ha with h1 | h1; exact hp h1; omega))⟩
theorem Wf.sJ {G : AH} (h : Wf G) {a i : Nat} {v : Int64} : Wf (sJ G a i v) := h
theorem same_sD {G : AH} (a i : Nat) (v : UInt64) {x : Nat} (hxa : ¬ x = a) : same x G (sD G a i v) := ⟨fun _ => rfl, fun _ => rfl, rfl, rfl, rfl, funext fun i2 => by rw [hD_sD, if_neg (fun h => hxa h.1)]⟩
theorem Fr.sD {P : Nat → Prop} {G G1 : AH} (h : Fr P G G1) {a i : Nat} {v : UInt64} (ha : P a ∨ hS G ≤ a) : Fr P G (sD G1 a i v) :=
  ⟨h.1, h.2.1, fun x hx => ⟨(h.2.2.1 x hx).1, (h.2.2.1 x hx).2⟩, fun x hx hp => (h.2.2.2 x hx hp).trans (same_sD a i v (fun e => by subst e; rcases ha with h1 | h1; exact hp h1; omega))⟩
theorem Wf.sD {G : AH} (h : Wf G) {a i : Nat} {v : UInt64} : Wf (sD G a i v) := h
theorem same_sAr {G : AH} (a : Nat) (g : Nat → Int32) {x : Nat} (hxa : ¬ x = a) : same x G (sAr G a g) := ⟨fun _ => rfl, fun _ => rfl, by rw [hA_sAr, if_neg hxa], rfl, rfl, rfl⟩
theorem Fr.sAr {P : Nat → Prop} {G G1 : AH} (h : Fr P G G1) {a : Nat} {g : Nat → Int32} (ha : P a ∨ hS G ≤ a) : Fr P G (sAr G1 a g) :=
  ⟨h.1, h.2.1, fun x hx => ⟨(h.2.2.1 x hx).1, (h.2.2.1 x hx).2⟩, fun x hx hp => (h.2.2.2 x hx hp).trans (same_sAr a g (fun e => by subst e; rcases ha with h1 | h1; exact hp h1; omega))⟩
theorem Wf.sAr {G : AH} (h : Wf G) {a : Nat} {g : Nat → Int32} : Wf (sAr G a g) := h
theorem same_sQr {G : AH} (a : Nat) (g : Nat → Nat) {x : Nat} (hxa : ¬ x = a) : same x G (sQr G a g) := ⟨fun _ => rfl, fun _ => rfl, rfl, by rw [hQ_sQr, if_neg hxa], rfl, rfl⟩
theorem Fr.sQr {P : Nat → Prop} {G G1 : AH} (h : Fr P G G1) {a : Nat} {g : Nat → Nat} (ha : P a ∨ hS G ≤ a) : Fr P G (sQr G1 a g) :=
  ⟨h.1, h.2.1, fun x hx => ⟨(h.2.2.1 x hx).1, (h.2.2.1 x hx).2⟩, fun x hx hp => (h.2.2.2 x hx hp).trans (same_sQr a g (fun e => by subst e; rcases ha with h1 | h1; exact hp h1; omega))⟩
theorem Wf.sQr {G : AH} (h : Wf G) {a : Nat} {g : Nat → Nat} : Wf (sQr G a g) := h
theorem Fr.nO {P : Nat → Prop} {G G1 : AH} (h : Fr P G G1) {c n : Nat} : Fr P G (nO G1 c n) :=
  ⟨Nat.le_trans h.1 (Nat.le_succ _), Nat.le_trans h.2.1 (Nat.le_add_right _ _), fun a ha => ⟨by rw [hK_nO, if_neg (Nat.ne_of_lt (Nat.lt_of_lt_of_le ha h.1))]; exact (h.2.2.1 a ha).1, (h.2.2.1 a ha).2⟩,
    fun a ha hp => (h.2.2.2 a ha hp).trans ⟨fun f => by rw [hI_nO, if_neg (Nat.ne_of_lt (Nat.lt_of_lt_of_le ha h.1))], fun f => by rw [hR_nO, if_neg (Nat.ne_of_lt (Nat.lt_of_lt_of_le ha h.1))], rfl, rfl, rfl, rfl⟩⟩
theorem Fr.nA {P : Nat → Prop} {G G1 : AH} (h : Fr P G G1) {k n : Nat} : Fr P G (nA G1 k n) :=
  ⟨Nat.le_trans h.1 (Nat.le_succ _), Nat.le_trans h.2.1 (Nat.le_add_right _ _), fun a ha => ⟨by rw [hK_nA, if_neg (Nat.ne_of_lt (Nat.lt_of_lt_of_le ha h.1))]; exact (h.2.2.1 a ha).1, by rw [hL_nA, if_neg (Nat.ne_of_lt (Nat.lt_of_lt_of_le ha h.1))]; exact (h.2.2.1 a ha).2⟩,
    fun a ha hp => (h.2.2.2 a ha hp).trans ⟨fun f => rfl, fun f => rfl, by rw [hA_nA, if_neg (Nat.ne_of_lt (Nat.lt_of_lt_of_le ha h.1))], by rw [hQ_nA, if_neg (Nat.ne_of_lt (Nat.lt_of_lt_of_le ha h.1))], by rw [hJ_nA, if_neg (Nat.ne_of_lt (Nat.lt_of_lt_of_le ha h.1))], by rw [hD_nA, if_neg (Nat.ne_of_lt (Nat.lt_of_lt_of_le ha h.1))]⟩⟩
theorem Wf.nO {G : AH} (h : Wf G) {c n : Nat} : Wf (nO G c n) := by
  refine ⟨Nat.succ_pos _, fun a ha => ?_⟩
  rw [hK_nO] at ha
  rw [hS_nO]
  by_cases e : a = hS G
  · have := h.1
    omega
  · rw [if_neg e] at ha
    have := h.2 a ha
    omega
theorem Wf.nA {G : AH} (h : Wf G) {k n : Nat} : Wf (nA G k n) := by
  refine ⟨Nat.succ_pos _, fun a ha => ?_⟩
  rw [hK_nA] at ha
  rw [hS_nA]
  by_cases e : a = hS G
  · have := h.1
    omega
  · rw [if_neg e] at ha
    have := h.2 a ha
    omega
