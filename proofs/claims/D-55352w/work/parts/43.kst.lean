section KST
variable {γ : GP} {G : AH} {own ga : Nat → Nat} {tr : Nat → List Nat} {et : Nat → Nat → Nat} {S : St} {hb : Nat → Prop} {ms : List Ms}
theorem Kt.min (h : Kt γ G own ga tr et hb S ms) (hw : Wf G) (hc : Cn γ G) {v : Int32} : Kt γ (sI G 12 (ga 1) v) own ga tr et hb (usg S 0 v) ms := by
  have h0 := h
  obtain ⟨⟨b1, b2, b3, b4, b5⟩, k1, k2, k3, k4, k5, k6, kc, kl, ka, ko, kt, kd⟩ := h0
  obtain ⟨q1, q2, q3, q4, q5, q6, q7, q8, q9⟩ := k1
  exact h.upd hw hc hw.sI (T := 1) ⟨by omega, by omega, by omega, by omega, fun j2 hj2 => by omega⟩ (Fc.stI hw q1 (by decide) q3) (fun _ _ => rfl) (fun a ha => b2 a ha) (fun a ha q => by rw [b2 a ha] at q; exact absurd q (by decide)) (fun a ha _ _ => Or.inl (b2 a ha)) (Or.inr rfl) rfl
    rfl
    (fun _ => ⟨q1, q2, q3, q4, q5, q6, q7, by rw [hI_sI, if_pos ⟨rfl, rfl⟩]; rfl, by rw [hI_sI, if_neg (fun e => absurd e.1 (by decide))]; exact q9⟩)
    (fun q => absurd rfl q)
    (fun q => by omega)
    (fun q => rfl)
    (fun q => by omega)
    (fun q => rfl)
    (fun q => by omega)
    (fun q => rfl)
    (fun i2 hi2 q => by omega)
    (fun i2 hi2 q => ⟨rfl, rfl⟩)
    (fun i2 hi2 q => by omega)
    (fun i2 hi2 q => rfl)
    (fun i2 hi2 b2 hb2 q => by omega)
    (fun i2 hi2 b2 hb2 q y2 hy2 => rfl)
    (fun j2 hj2 q => by omega)
    (fun j2 hj2 q => ⟨rfl, rfl, rfl, rfl⟩)
    (fun j2 hj2 d2 hd2 => rfl)
    (fun j2 hj2 d2 hd2 _ q => by omega)
    (fun j2 hj2 d2 hd2 q => ⟨rfl, rfl, rfl⟩)
theorem Kt.lost (h : Kt γ G own ga tr et hb S ms) (hw : Wf G) (hc : Cn γ G) {v : Int32} : Kt γ (sI G 13 (ga 1) v) own ga tr et hb (usg S 4 v) ms := by
  have h0 := h
  obtain ⟨⟨b1, b2, b3, b4, b5⟩, k1, k2, k3, k4, k5, k6, kc, kl, ka, ko, kt, kd⟩ := h0
  obtain ⟨q1, q2, q3, q4, q5, q6, q7, q8, q9⟩ := k1
  exact h.upd hw hc hw.sI (T := 1) ⟨by omega, by omega, by omega, by omega, fun j2 hj2 => by omega⟩ (Fc.stI hw q1 (by decide) q3) (fun _ _ => rfl) (fun a ha => b2 a ha) (fun a ha q => by rw [b2 a ha] at q; exact absurd q (by decide)) (fun a ha _ _ => Or.inl (b2 a ha)) (Or.inr rfl) rfl
    rfl
    (fun _ => ⟨q1, q2, q3, q4, q5, q6, q7, by rw [hI_sI, if_neg (fun e => absurd e.1 (by decide))]; exact q8, by rw [hI_sI, if_pos ⟨rfl, rfl⟩]; rfl⟩)
    (fun q => absurd rfl q)
    (fun q => by omega)
    (fun q => rfl)
    (fun q => by omega)
    (fun q => rfl)
    (fun q => by omega)
    (fun q => rfl)
    (fun i2 hi2 q => by omega)
    (fun i2 hi2 q => ⟨rfl, rfl⟩)
    (fun i2 hi2 q => by omega)
    (fun i2 hi2 q => rfl)
    (fun i2 hi2 b2 hb2 q => by omega)
    (fun i2 hi2 b2 hb2 q y2 hy2 => rfl)
    (fun j2 hj2 q => by omega)
    (fun j2 hj2 q => ⟨rfl, rfl, rfl, rfl⟩)
    (fun j2 hj2 d2 hd2 => rfl)
    (fun j2 hj2 d2 hd2 _ q => by omega)
    (fun j2 hj2 d2 hd2 q => ⟨rfl, rfl, rfl⟩)
theorem Kt.out (h : Kt γ G own ga tr et hb S ms) (hw : Wf G) (hc : Cn γ G) {v : Int32} : Kt γ (sI G 17 (ga 4) v) own ga tr et hb (usg S 3 v) ms := by
  have h0 := h
  obtain ⟨⟨b1, b2, b3, b4, b5⟩, k1, k2, k3, k4, k5, k6, kc, kl, ka, ko, kt, kd⟩ := h0
  obtain ⟨q1, q2, q3, q4, q5⟩ := k4
  exact h.upd hw hc hw.sI (T := 4) ⟨by omega, by omega, by omega, by omega, fun j2 hj2 => by omega⟩ (Fc.stI hw q1 (by decide) q3) (fun _ _ => rfl) (fun a ha => b2 a ha) (fun a ha q => by rw [b2 a ha] at q; exact absurd q (by decide)) (fun a ha _ _ => Or.inl (b2 a ha)) (Or.inr rfl) rfl
    rfl
    (fun q => by omega)
    (fun q => ⟨rfl, rfl⟩)
    (fun _ => ⟨q1, q2, q3, by rw [hI_sI, if_pos ⟨rfl, rfl⟩]; rfl, q5⟩)
    (fun q => absurd rfl q)
    (fun q => by omega)
    (fun q => rfl)
    (fun q => by omega)
    (fun q => rfl)
    (fun i2 hi2 q => by omega)
    (fun i2 hi2 q => ⟨rfl, rfl⟩)
    (fun i2 hi2 q => by omega)
    (fun i2 hi2 q => rfl)
    (fun i2 hi2 b2 hb2 q => by omega)
    (fun i2 hi2 b2 hb2 q y2 hy2 => rfl)
    (fun j2 hj2 q => by omega)
    (fun j2 hj2 q => ⟨rfl, rfl, rfl, rfl⟩)
    (fun j2 hj2 d2 hd2 => rfl)
    (fun j2 hj2 d2 hd2 _ q => by omega)
    (fun j2 hj2 d2 hd2 q => ⟨rfl, rfl, rfl⟩)
theorem Kt.faint (h : Kt γ G own ga tr et hb S ms) (hw : Wf G) (hc : Cn γ G) {i : Nat} {v : Int32} (hi : i < nk S) : Kt γ (sI G 17 (ga (10 + i)) v) own ga tr et hb (usk S i 1 v) ms := by
  have h0 := h
  obtain ⟨⟨b1, b2, b3, b4, b5⟩, k1, k2, k3, k4, k5, k6, kc, kl, ka, ko, kt, kd⟩ := h0
  obtain ⟨q1, q2, q3, q4, q5, q6, q7, q8, q9⟩ := kc i hi
  exact h.upd hw hc hw.sI (T := 10 + i) ⟨by omega, by omega, by omega, by omega, fun j2 hj2 => by omega⟩ (Fc.stI hw q1 (by decide) q3) (fun _ _ => rfl) (fun a ha => b2 a ha) (fun a ha q => by rw [b2 a ha] at q; exact absurd q (by decide)) (fun a ha _ _ => Or.inl (b2 a ha)) (Or.inr rfl) rfl
    rfl
    (fun q => by omega)
    (fun q => ⟨rfl, rfl⟩)
    (fun q => by omega)
    (fun q => rfl)
    (fun q => by omega)
    (fun q => rfl)
    (fun q => by omega)
    (fun q => rfl)
    (fun i2 hi2 q => by
      have e : i2 = i := by omega
      subst e
      exact ⟨q1, q2, q3, by rw [hI_sI, if_neg (fun e => absurd e.1 (by decide)), sk_usk, if_neg (fun e => absurd e.2 (by decide))]; exact q4, by rw [hI_sI, if_pos ⟨rfl, rfl⟩, sk_usk, if_pos ⟨rfl, rfl⟩], q6, q7, q8, q9⟩)
    (fun i2 hi2 q => ⟨by rw [sk_usk, if_neg (fun e => by omega)], by rw [sk_usk, if_neg (fun e => by omega)]⟩)
    (fun i2 hi2 q => by omega)
    (fun i2 hi2 q => rfl)
    (fun i2 hi2 b2 hb2 q => by omega)
    (fun i2 hi2 b2 hb2 q y2 hy2 => by rw [sk_usk, if_neg (fun e => by omega)])
    (fun j2 hj2 q => by omega)
    (fun j2 hj2 q => ⟨rfl, rfl, rfl, rfl⟩)
    (fun j2 hj2 d2 hd2 => rfl)
    (fun j2 hj2 d2 hd2 _ q => by omega)
    (fun j2 hj2 d2 hd2 q => ⟨rfl, rfl, rfl⟩)
theorem Kt.phase (h : Kt γ G own ga tr et hb S ms) (hw : Wf G) (hc : Cn γ G) {j : Nat} {v : Int32} (hj : j < nc S) : Kt γ (sI G 88 (ga (60 + j)) v) own ga tr et hb (usc S j 0 v) ms := by
  have h0 := h
  obtain ⟨⟨b1, b2, b3, b4, b5⟩, k1, k2, k3, k4, k5, k6, kc, kl, ka, ko, kt, kd⟩ := h0
  obtain ⟨q1, q2, q3, q4, q5, q6, q7, q8⟩ := ko j hj
  exact h.upd hw hc hw.sI (T := 60 + j) ⟨by omega, by omega, by omega, by omega, fun j2 hj2 => by omega⟩ (Fc.stI hw q1 (by decide) q3) (fun _ _ => rfl) (fun a ha => b2 a ha) (fun a ha q => by rw [b2 a ha] at q; exact absurd q (by decide)) (fun a ha _ _ => Or.inl (b2 a ha)) (Or.inr rfl) rfl
    rfl
    (fun q => by omega)
    (fun q => ⟨rfl, rfl⟩)
    (fun q => by omega)
    (fun q => rfl)
    (fun q => by omega)
    (fun q => rfl)
    (fun q => by omega)
    (fun q => rfl)
    (fun i2 hi2 q => by omega)
    (fun i2 hi2 q => ⟨rfl, rfl⟩)
    (fun i2 hi2 q => by omega)
    (fun i2 hi2 q => rfl)
    (fun i2 hi2 b2 hb2 q => by omega)
    (fun i2 hi2 b2 hb2 q y2 hy2 => rfl)
    (fun j2 hj2 q => by
      have e : j2 = j := by omega
      subst e
      exact ⟨q1, q2, q3, by rw [hI_sI, if_pos ⟨rfl, rfl⟩, sc_usc, if_pos ⟨rfl, rfl⟩], by rw [hI_sI, if_neg (fun e => absurd e.1 (by decide)), sc_usc, if_neg (fun e => absurd e.2 (by decide))]; exact q5, by rw [hI_sI, if_neg (fun e => absurd e.1 (by decide)), sc_usc, if_neg (fun e => absurd e.2 (by decide))]; exact q6, by rw [hI_sI, if_neg (fun e => absurd e.1 (by decide))]; exact q7, q8⟩)
    (fun j2 hj2 q => ⟨by rw [sc_usc, if_neg (fun e => by omega)], by rw [sc_usc, if_neg (fun e => by omega)], by rw [sc_usc, if_neg (fun e => by omega)], rfl⟩)
    (fun j2 hj2 d2 hd2 => by rw [sc_usc, if_neg (fun e => by omega)])
    (fun j2 hj2 d2 hd2 _ q => by omega)
    (fun j2 hj2 d2 hd2 q => ⟨by rw [sc_usc, if_neg (fun e => by omega)], by rw [sc_usc, if_neg (fun e => by omega)], by rw [sc_usc, if_neg (fun e => by omega)]⟩)
theorem Kt.asked (h : Kt γ G own ga tr et hb S ms) (hw : Wf G) (hc : Cn γ G) {j : Nat} {v : Int32} (hj : j < nc S) : Kt γ (sI G 89 (ga (60 + j)) v) own ga tr et hb (usc S j 1 v) ms := by
  have h0 := h
  obtain ⟨⟨b1, b2, b3, b4, b5⟩, k1, k2, k3, k4, k5, k6, kc, kl, ka, ko, kt, kd⟩ := h0
  obtain ⟨q1, q2, q3, q4, q5, q6, q7, q8⟩ := ko j hj
  exact h.upd hw hc hw.sI (T := 60 + j) ⟨by omega, by omega, by omega, by omega, fun j2 hj2 => by omega⟩ (Fc.stI hw q1 (by decide) q3) (fun _ _ => rfl) (fun a ha => b2 a ha) (fun a ha q => by rw [b2 a ha] at q; exact absurd q (by decide)) (fun a ha _ _ => Or.inl (b2 a ha)) (Or.inr rfl) rfl
    rfl
    (fun q => by omega)
    (fun q => ⟨rfl, rfl⟩)
    (fun q => by omega)
    (fun q => rfl)
    (fun q => by omega)
    (fun q => rfl)
    (fun q => by omega)
    (fun q => rfl)
    (fun i2 hi2 q => by omega)
    (fun i2 hi2 q => ⟨rfl, rfl⟩)
    (fun i2 hi2 q => by omega)
    (fun i2 hi2 q => rfl)
    (fun i2 hi2 b2 hb2 q => by omega)
    (fun i2 hi2 b2 hb2 q y2 hy2 => rfl)
    (fun j2 hj2 q => by
      have e : j2 = j := by omega
      subst e
      exact ⟨q1, q2, q3, by rw [hI_sI, if_neg (fun e => absurd e.1 (by decide)), sc_usc, if_neg (fun e => absurd e.2 (by decide))]; exact q4, by rw [hI_sI, if_pos ⟨rfl, rfl⟩, sc_usc, if_pos ⟨rfl, rfl⟩], by rw [hI_sI, if_neg (fun e => absurd e.1 (by decide)), sc_usc, if_neg (fun e => absurd e.2 (by decide))]; exact q6, by rw [hI_sI, if_neg (fun e => absurd e.1 (by decide))]; exact q7, q8⟩)
    (fun j2 hj2 q => ⟨by rw [sc_usc, if_neg (fun e => by omega)], by rw [sc_usc, if_neg (fun e => by omega)], by rw [sc_usc, if_neg (fun e => by omega)], rfl⟩)
    (fun j2 hj2 d2 hd2 => by rw [sc_usc, if_neg (fun e => by omega)])
    (fun j2 hj2 d2 hd2 _ q => by omega)
    (fun j2 hj2 d2 hd2 q => ⟨by rw [sc_usc, if_neg (fun e => by omega)], by rw [sc_usc, if_neg (fun e => by omega)], by rw [sc_usc, if_neg (fun e => by omega)]⟩)
theorem Kt.decided (h : Kt γ G own ga tr et hb S ms) (hw : Wf G) (hc : Cn γ G) {j : Nat} {v : Int32} (hj : j < nc S) : Kt γ (sI G 90 (ga (60 + j)) v) own ga tr et hb (usc S j 2 v) ms := by
  have h0 := h
  obtain ⟨⟨b1, b2, b3, b4, b5⟩, k1, k2, k3, k4, k5, k6, kc, kl, ka, ko, kt, kd⟩ := h0
  obtain ⟨q1, q2, q3, q4, q5, q6, q7, q8⟩ := ko j hj
  exact h.upd hw hc hw.sI (T := 60 + j) ⟨by omega, by omega, by omega, by omega, fun j2 hj2 => by omega⟩ (Fc.stI hw q1 (by decide) q3) (fun _ _ => rfl) (fun a ha => b2 a ha) (fun a ha q => by rw [b2 a ha] at q; exact absurd q (by decide)) (fun a ha _ _ => Or.inl (b2 a ha)) (Or.inr rfl) rfl
    rfl
    (fun q => by omega)
    (fun q => ⟨rfl, rfl⟩)
    (fun q => by omega)
    (fun q => rfl)
    (fun q => by omega)
    (fun q => rfl)
    (fun q => by omega)
    (fun q => rfl)
    (fun i2 hi2 q => by omega)
    (fun i2 hi2 q => ⟨rfl, rfl⟩)
    (fun i2 hi2 q => by omega)
    (fun i2 hi2 q => rfl)
    (fun i2 hi2 b2 hb2 q => by omega)
    (fun i2 hi2 b2 hb2 q y2 hy2 => rfl)
    (fun j2 hj2 q => by
      have e : j2 = j := by omega
      subst e
      exact ⟨q1, q2, q3, by rw [hI_sI, if_neg (fun e => absurd e.1 (by decide)), sc_usc, if_neg (fun e => absurd e.2 (by decide))]; exact q4, by rw [hI_sI, if_neg (fun e => absurd e.1 (by decide)), sc_usc, if_neg (fun e => absurd e.2 (by decide))]; exact q5, by rw [hI_sI, if_pos ⟨rfl, rfl⟩, sc_usc, if_pos ⟨rfl, rfl⟩], by rw [hI_sI, if_neg (fun e => absurd e.1 (by decide))]; exact q7, q8⟩)
    (fun j2 hj2 q => ⟨by rw [sc_usc, if_neg (fun e => by omega)], by rw [sc_usc, if_neg (fun e => by omega)], by rw [sc_usc, if_neg (fun e => by omega)], rfl⟩)
    (fun j2 hj2 d2 hd2 => by rw [sc_usc, if_neg (fun e => by omega)])
    (fun j2 hj2 d2 hd2 _ q => by omega)
    (fun j2 hj2 d2 hd2 q => ⟨by rw [sc_usc, if_neg (fun e => by omega)], by rw [sc_usc, if_neg (fun e => by omega)], by rw [sc_usc, if_neg (fun e => by omega)]⟩)
theorem Kt.votes (h : Kt γ G own ga tr et hb S ms) (hw : Wf G) (hc : Cn γ G) {j n : Nat} (hj : j < nc S) : Kt γ (sI G 91 (ga (60 + j)) (Int32.ofNat n)) own ga tr et hb (usv S j n) ms := by
  have h0 := h
  obtain ⟨⟨b1, b2, b3, b4, b5⟩, k1, k2, k3, k4, k5, k6, kc, kl, ka, ko, kt, kd⟩ := h0
  obtain ⟨q1, q2, q3, q4, q5, q6, q7, q8⟩ := ko j hj
  exact h.upd hw hc hw.sI (T := 60 + j) ⟨by omega, by omega, by omega, by omega, fun j2 hj2 => by omega⟩ (Fc.stI hw q1 (by decide) q3) (fun _ _ => rfl) (fun a ha => b2 a ha) (fun a ha q => by rw [b2 a ha] at q; exact absurd q (by decide)) (fun a ha _ _ => Or.inl (b2 a ha)) (Or.inr rfl) rfl
    rfl
    (fun q => by omega)
    (fun q => ⟨rfl, rfl⟩)
    (fun q => by omega)
    (fun q => rfl)
    (fun q => by omega)
    (fun q => rfl)
    (fun q => by omega)
    (fun q => rfl)
    (fun i2 hi2 q => by omega)
    (fun i2 hi2 q => ⟨rfl, rfl⟩)
    (fun i2 hi2 q => by omega)
    (fun i2 hi2 q => rfl)
    (fun i2 hi2 b2 hb2 q => by omega)
    (fun i2 hi2 b2 hb2 q y2 hy2 => rfl)
    (fun j2 hj2 q => by
      have e : j2 = j := by omega
      subst e
      exact ⟨q1, q2, q3, by rw [hI_sI, if_neg (fun e => absurd e.1 (by decide))]; exact q4, by rw [hI_sI, if_neg (fun e => absurd e.1 (by decide))]; exact q5, by rw [hI_sI, if_neg (fun e => absurd e.1 (by decide))]; exact q6, by rw [hI_sI, if_pos ⟨rfl, rfl⟩, sv_usv, if_pos rfl], q8⟩)
    (fun j2 hj2 q => ⟨rfl, rfl, rfl, by rw [sv_usv, if_neg (fun e => by omega)]⟩)
    (fun j2 hj2 d2 hd2 => rfl)
    (fun j2 hj2 d2 hd2 _ q => by omega)
    (fun j2 hj2 d2 hd2 q => ⟨rfl, rfl, rfl⟩)
theorem Kt.how (h : Kt γ G own ga tr et hb S ms) (hw : Wf G) (hc : Cn γ G) {j d : Nat} {v : Int32} (hj : j < nc S) (hd : d < 6) (hx : isD S j d) (hv : isHow v) : Kt γ (sR G 95 (ga (80 + 6 * j + d)) (howA γ v)) own ga tr et hb (usc S j (4 + 4 * d + 2) v) ms := by
  have h0 := h
  obtain ⟨⟨b1, b2, b3, b4, b5⟩, k1, k2, k3, k4, k5, k6, kc, kl, ka, ko, kt, kd⟩ := h0
  obtain ⟨q1, q2, q3, q4, q5, q6, q7, q8⟩ := kd j hj d hd hx
  exact h.upd hw hc hw.sR (T := 80 + 6 * j + d) ⟨by omega, by omega, by omega, by omega, fun j2 hj2 => by omega⟩ (Fc.stR hw q1 (by decide) q3) (fun _ _ => rfl) (fun a ha => b2 a ha) (fun a ha q => by rw [b2 a ha] at q; exact absurd q (by decide)) (fun a ha _ _ => Or.inl (b2 a ha)) (Or.inr rfl) rfl
    rfl
    (fun q => by omega)
    (fun q => ⟨rfl, rfl⟩)
    (fun q => by omega)
    (fun q => rfl)
    (fun q => by omega)
    (fun q => rfl)
    (fun q => by omega)
    (fun q => rfl)
    (fun i2 hi2 q => by omega)
    (fun i2 hi2 q => ⟨rfl, rfl⟩)
    (fun i2 hi2 q => by omega)
    (fun i2 hi2 q => rfl)
    (fun i2 hi2 b2 hb2 q => by omega)
    (fun i2 hi2 b2 hb2 q y2 hy2 => rfl)
    (fun j2 hj2 q => by omega)
    (fun j2 hj2 q => ⟨by rw [sc_usc, if_neg (fun e => by omega)], by rw [sc_usc, if_neg (fun e => by omega)], by rw [sc_usc, if_neg (fun e => by omega)], rfl⟩)
    (fun j2 hj2 d2 hd2 => by rw [sc_usc, if_neg (fun e => by omega)])
    (fun j2 hj2 d2 hd2 _ q => by
      have e : j2 = j := by omega
      subst e
      have e : d2 = d := by omega
      subst e
      exact ⟨q1, q2, q3, by rw [sc_usc, if_neg (fun e => by omega)]; exact q4, by rw [sc_usc, if_neg (fun e => by omega)]; exact q5, by rw [rs, sc_usc, if_pos ⟨rfl, rfl⟩], by rw [sc_usc, if_neg (fun e => by omega)]; exact q7, by rw [sc_usc, if_pos ⟨rfl, rfl⟩]; exact hv⟩)
    (fun j2 hj2 d2 hd2 q => ⟨by rw [sc_usc, if_neg (fun e => by omega)], by rw [sc_usc, if_neg (fun e => by omega)], by rw [sc_usc, if_neg (fun e => by omega)]⟩)
theorem Kt.since (h : Kt γ G own ga tr et hb S ms) (hw : Wf G) (hc : Cn γ G) {j d : Nat} {v : Int32} (hj : j < nc S) (hd : d < 6) (hx : isD S j d) : Kt γ (sI G 96 (ga (80 + 6 * j + d)) v) own ga tr et hb (usc S j (4 + 4 * d + 3) v) ms := by
  have h0 := h
  obtain ⟨⟨b1, b2, b3, b4, b5⟩, k1, k2, k3, k4, k5, k6, kc, kl, ka, ko, kt, kd⟩ := h0
  obtain ⟨q1, q2, q3, q4, q5, q6, q7, q8⟩ := kd j hj d hd hx
  exact h.upd hw hc hw.sI (T := 80 + 6 * j + d) ⟨by omega, by omega, by omega, by omega, fun j2 hj2 => by omega⟩ (Fc.stI hw q1 (by decide) q3) (fun _ _ => rfl) (fun a ha => b2 a ha) (fun a ha q => by rw [b2 a ha] at q; exact absurd q (by decide)) (fun a ha _ _ => Or.inl (b2 a ha)) (Or.inr rfl) rfl
    rfl
    (fun q => by omega)
    (fun q => ⟨rfl, rfl⟩)
    (fun q => by omega)
    (fun q => rfl)
    (fun q => by omega)
    (fun q => rfl)
    (fun q => by omega)
    (fun q => rfl)
    (fun i2 hi2 q => by omega)
    (fun i2 hi2 q => ⟨rfl, rfl⟩)
    (fun i2 hi2 q => by omega)
    (fun i2 hi2 q => rfl)
    (fun i2 hi2 b2 hb2 q => by omega)
    (fun i2 hi2 b2 hb2 q y2 hy2 => rfl)
    (fun j2 hj2 q => by omega)
    (fun j2 hj2 q => ⟨by rw [sc_usc, if_neg (fun e => by omega)], by rw [sc_usc, if_neg (fun e => by omega)], by rw [sc_usc, if_neg (fun e => by omega)], rfl⟩)
    (fun j2 hj2 d2 hd2 => by rw [sc_usc, if_neg (fun e => by omega)])
    (fun j2 hj2 d2 hd2 _ q => by
      have e : j2 = j := by omega
      subst e
      have e : d2 = d := by omega
      subst e
      exact ⟨q1, q2, q3, by rw [hI_sI, if_neg (fun e => absurd e.1 (by decide)), sc_usc, if_neg (fun e => by omega)]; exact q4, by rw [hI_sI, if_neg (fun e => absurd e.1 (by decide)), sc_usc, if_neg (fun e => by omega)]; exact q5, by rw [sc_usc, if_neg (fun e => by omega)]; exact q6, by rw [hI_sI, if_pos ⟨rfl, rfl⟩, sc_usc, if_pos ⟨rfl, rfl⟩], by rw [sc_usc, if_neg (fun e => by omega)]; exact q8⟩)
    (fun j2 hj2 d2 hd2 q => ⟨by rw [sc_usc, if_neg (fun e => by omega)], by rw [sc_usc, if_neg (fun e => by omega)], by rw [sc_usc, if_neg (fun e => by omega)]⟩)
theorem Kt.arr (h : Kt γ G own ga tr et hb S ms) (hw : Wf G) (hc : Cn γ G) {i b y : Nat} {v : Int32} (hi : i < nk S) (hbb : b < 3) (hy : y < 4) : Kt γ (sA G (ga (30 + 3 * i + b)) y v) own ga tr et hb (usk S i (3 + 4 * b + y) v) ms := by
  have h0 := h
  obtain ⟨⟨b1, b2, b3, b4, b5⟩, k1, k2, k3, k4, k5, k6, kc, kl, ka, ko, kt, kd⟩ := h0
  obtain ⟨q1, q2, q3, q4, q5⟩ := ka i hi b hbb
  exact h.upd hw hc hw.sA (T := 30 + 3 * i + b) ⟨by omega, by omega, by omega, by omega, fun j2 hj2 => by omega⟩ (Fc.stA hw q1 (by decide) q4) (fun _ _ => rfl) (fun a ha => b2 a ha) (fun a ha q => by rw [b2 a ha] at q; exact absurd q (by decide)) (fun a ha _ _ => Or.inl (b2 a ha)) (Or.inr rfl) rfl
    rfl
    (fun q => by omega)
    (fun q => ⟨rfl, rfl⟩)
    (fun q => by omega)
    (fun q => rfl)
    (fun q => by omega)
    (fun q => rfl)
    (fun q => by omega)
    (fun q => rfl)
    (fun i2 hi2 q => by omega)
    (fun i2 hi2 q => ⟨by rw [sk_usk, if_neg (fun e => by omega)], by rw [sk_usk, if_neg (fun e => by omega)]⟩)
    (fun i2 hi2 q => by omega)
    (fun i2 hi2 q => rfl)
    (fun i2 hi2 b2 hb2 q => by
      have e : i2 = i := by omega
      subst e
      have e : b2 = b := by omega
      subst e
      refine ⟨q1, q2, q3, q4, fun y2 hy2 => ?_⟩
      rw [hA_sA, sk_usk]
      by_cases e : y2 = y
      · rw [if_pos ⟨rfl, e⟩, if_pos ⟨rfl, by rw [e]⟩]
      · rw [if_neg (fun k => e k.2), if_neg (fun k => by omega)]; exact q5 y2 hy2)
    (fun i2 hi2 b2 hb2 q y2 hy2 => by rw [sk_usk, if_neg (fun e => by omega)])
    (fun j2 hj2 q => by omega)
    (fun j2 hj2 q => ⟨rfl, rfl, rfl, rfl⟩)
    (fun j2 hj2 d2 hd2 => rfl)
    (fun j2 hj2 d2 hd2 _ q => by omega)
    (fun j2 hj2 d2 hd2 q => ⟨rfl, rfl, rfl⟩)
end KST
