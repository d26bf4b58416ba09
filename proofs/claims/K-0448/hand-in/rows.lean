section
/-- slot by slot: the p-th entry from the head lies at (h + p) mod 4 in the component and at p in the reference -/
def ro_P (h n : Nat) (s r st w : Nat → Int32) : Prop :=
  ∀ p, p < 4 → (p < n → s ((h + p) % 4) = st p ∧ (st p = 1 ∨ st p = 2) ∧ (st p = 2 → r ((h + p) % 4) = w p)) ∧ (n ≤ p → s ((h + p) % 4) = 0)
theorem ro_us {f : Nat → Int32} {k : Nat} {x : Int32} : upd f k x k = x := if_pos rfl
theorem ro_un {f : Nat → Int32} {k j : Nat} {x : Int32} (h : j ≠ k) : upd f k x j = f j := if_neg h
theorem ro_and : ∀ n, n < 16 → nI n &&& 3 = nI (n % 4) := by decide +kernel
theorem ro_sub : ∀ t, t < 4 → ∀ h, h < 4 → (nI t - nI h) &&& 3 = nI ((t + 4 - h) % 4) := by decide +kernel
theorem ro_mn : ∀ a, a < 5 → ∀ b, b < 5 → b ≤ a → nI a - nI b = nI (a - b) := by decide +kernel
theorem ro_b0 : vp_nar .byte 0 = 0 := by rw [vp_nar_byte]; decide
theorem ro_b1 : vp_nar .byte 1 = 1 := by rw [vp_nar_byte]; decide
theorem ro_b2 : vp_nar .byte 2 = 2 := by rw [vp_nar_byte]; decide
theorem ro_b {x : Int32} (h : x = 1 ∨ x = 2) : vp_nar .byte x = x := by
  rcases h with h | h
  · rw [h]; exact ro_b1
  · rw [h]; exact ro_b2
/-- a tag's place behind the head -/
theorem ro_tag {t h : Nat} (ht : t < 4) (hh : h < 4) : ∃ p, p < 4 ∧ (h + p) % 4 = t ∧ (nI t - nI h) &&& 3 = nI p :=
  ⟨(t + 4 - h) % 4, by omega, by omega, ro_sub t ht h hh⟩
theorem ro_init : ro_P 0 0 (fun _ => 0) (fun _ => 0) (fun _ => 0) (fun _ => 0) :=
  fun _ _ => ⟨fun z => absurd z (by omega), fun _ => rfl⟩
theorem ro_alloc {h n : Nat} {s r st w : Nat → Int32} (hn : n < 4) (P : ro_P h n s r st w) :
    ro_P h (n + 1) (upd s ((h + n) % 4) 1) (upd r ((h + n) % 4) 0) (upd st n 1) w := by
  intro p hp
  by_cases e : p = n
  · subst e
    refine ⟨fun _ => ⟨?_, Or.inl ro_us, fun z => ?_⟩, fun z => absurd z (by omega)⟩
    · rw [ro_us, ro_us]
    · rw [ro_us] at z; exact absurd z (by decide)
  · have ne : (h + p) % 4 ≠ (h + n) % 4 := by omega
    have Q := P p hp
    rw [ro_un ne, ro_un ne, ro_un e]
    exact ⟨fun z => Q.1 (by omega), fun z => Q.2 (by omega)⟩
theorem ro_comp {h n p : Nat} {s r st w : Nat → Int32} (x : Int32) (hp : p < 4) (hn : p < n) (P : ro_P h n s r st w) :
    ro_P h n (upd s ((h + p) % 4) 2) (upd r ((h + p) % 4) x) (upd st p 2) (upd w p x) := by
  intro q hq
  by_cases e : q = p
  · subst e
    exact ⟨fun _ => ⟨by rw [ro_us, ro_us], Or.inr ro_us, fun _ => by rw [ro_us, ro_us]⟩, fun z => absurd z (by omega)⟩
  · have ne : (h + q) % 4 ≠ (h + p) % 4 := by omega
    rw [ro_un ne, ro_un ne, ro_un e, ro_un e]
    exact P q hq
theorem ro_ret {h n : Nat} {s r st w st' w' : Nat → Int32} (hh : h < 4) (h0 : 0 < n) (hn : n ≤ 4) (P : ro_P h n s r st w)
    (E : ∀ j, j + 1 < n → st' j = st (j + 1) ∧ w' j = w (j + 1)) : ro_P ((h + 1) % 4) (n - 1) (upd s h 0) r st' w' := by
  intro p hp
  by_cases e : p = 3
  · subst e
    have e1 : ((h + 1) % 4 + 3) % 4 = h := by omega
    rw [e1, ro_us]
    exact ⟨fun z => absurd z (by omega), fun _ => rfl⟩
  · have e1 : ((h + 1) % 4 + p) % 4 = (h + (p + 1)) % 4 := by omega
    have ne : (h + (p + 1)) % 4 ≠ h := by omega
    have Q := P (p + 1) (by omega)
    rw [e1, ro_un ne]
    refine ⟨fun z => ?_, fun z => Q.2 (by omega)⟩
    have F := E p (by omega)
    rw [F.1, F.2]
    exact Q.1 (by omega)
theorem ro_fl {h n p : Nat} {s r st w s' : Nat → Int32} (hp : p < n) (hn : n ≤ 4) (P : ro_P h n s r st w)
    (E : ∀ q, q < 4 → (p + 1 ≤ q ∧ q < n → s' ((h + q) % 4) = 0) ∧ (¬ (p + 1 ≤ q ∧ q < n) → s' ((h + q) % 4) = s ((h + q) % 4))) :
    ro_P h (p + 1) s' r st w := by
  intro q hq
  have Q := P q hq
  have F := E q hq
  refine ⟨fun z => ?_, fun z => ?_⟩
  · rw [F.2 (by omega)]
    exact Q.1 (by omega)
  · by_cases c : q < n
    · exact F.1 ⟨z, c⟩
    · rw [F.2 (by omega)]
      exact Q.2 (by omega)
end
section
/-- the reference's shifting loop, entered at place m + 1 -/
theorem ro_yl {post : Int32 → SY → Prop} {x1 : Int32} {h n : Nat} (hh : h < 4) (hn : n ≤ 4) : ∀ (d m : Nat) (st w : Nat → Int32), m + 1 + d = n →
    (∀ j, m < j → j < n → st j = 1 ∨ st j = 2) →
    (∀ st' w' : Nat → Int32, (∀ j, m ≤ j → j + 1 < n → st' j = st (j + 1) ∧ w' j = w (j + 1)) → (∀ j, j < m → st' j = st j ∧ w' j = w j) →
      post x1 (nI ((h + 1) % 4), nI (n - 1), st', w')) →
    wY_retire_28 post x1 (nI h) (nI n) (d + 1) (nI (m + 1)) st w := by
  intro d
  induction d with
  | zero =>
    intro m st w e _ K
    have hle : nI n ≤ nI (m + 1) := nI_le (by omega) (by omega)
    have e1 : nI n - 1 = nI (n - 1) := ro_mn n (by omega) 1 (by omega) (by omega)
    have e2 : (nI h + 1) &&& 3 = nI ((h + 1) % 4) := by rw [nI_1]; exact ro_and _ (by omega)
    exact br_t hle (nm_r e1 (nm_r e2 (K st w (fun j a b => absurd b (by omega)) (fun _ _ => ⟨rfl, rfl⟩))))
  | succ d ih =>
    intro m st w e B K
    have hge : ¬ nI n ≤ nI (m + 1) := nI_ge (by omega) (by omega)
    have i1 : vp_in (nI (m + 1)) 4 := vp_in_nI (by omega) (by omega)
    have ep : nI (m + 1) - 1 = nI m := nI_pred m
    have i0 : vp_in (nI (m + 1) - 1) 4 := by rw [ep]; exact vp_in_nI (by omega) (by omega)
    have c1 : (nI (m + 1)).toNatClampNeg = m + 1 := nI_clamp (by omega)
    have c0 : (nI (m + 1) - 1).toNatClampNeg = m := by rw [ep]; exact nI_clamp (by omega)
    have b1 : vp_nar .byte (st (m + 1)) = st (m + 1) := ro_b (B (m + 1) (by omega) (by omega))
    have ea : upd st (nI (m + 1) - 1).toNatClampNeg (vp_nar .byte (st (nI (m + 1)).toNatClampNeg)) = upd st m (st (m + 1)) := by rw [c0, c1, b1]
    have ew : upd w (nI (m + 1) - 1).toNatClampNeg (w (nI (m + 1)).toNatClampNeg) = upd w m (w (m + 1)) := by rw [c0, c1]
    refine br_f hge ⟨i1, i0, nm_r ea ⟨i1, i0, nm_r ew (nm_r (nI_1 (m + 1)) ?_)⟩⟩
    refine ih (m + 1) _ _ (by omega) (fun j a b => ?_) (fun st' w' H1 H2 => K st' w' (fun j a b => ?_) (fun j a => ?_))
    · rw [ro_un (by omega)]; exact B j (by omega) b
    · by_cases e : j = m
      · subst e
        have F := H2 j (by omega)
        rw [F.1, F.2, ro_us, ro_us]
        exact ⟨rfl, rfl⟩
      · have F := H1 j (by omega) b
        rw [F.1, F.2, ro_un (by omega), ro_un (by omega)]
        exact ⟨rfl, rfl⟩
    · have F := H2 j (by omega)
      rw [F.1, F.2, ro_un (by omega), ro_un (by omega)]
      exact ⟨rfl, rfl⟩
/-- the component's clearing loop after i places -/
theorem ro_xl {post : Int32 → SX → Prop} {f_tail : Int32} {h n p : Nat} {r : Nat → Int32} (hn : n ≤ 4) (hp : p < n) : ∀ (d i : Nat) (s : Nat → Int32), p + 1 + i + d = n →
    (∀ s' : Nat → Int32, (∀ q, q < 4 → (p + 1 + i ≤ q ∧ q < n → s' ((h + q) % 4) = 0) ∧ (¬ (p + 1 + i ≤ q ∧ q < n) → s' ((h + q) % 4) = s ((h + q) % 4))) →
      post (nI (n - (p + 1))) (nI h, nI ((h + (p + 1)) % 4), nI (p + 1), s', r)) →
    wX_flushAfter_50 post (nI ((h + p) % 4)) (nI (p + 1)) (nI (n - (p + 1))) (nI h) f_tail (nI n) (d + 1) (nI ((h + (p + 1 + i)) % 4)) (nI i) s r := by
  intro d
  induction d with
  | zero =>
    intro i s e K
    have hle : nI (n - (p + 1)) ≤ nI i := nI_le (by omega) (by omega)
    have e2 : (nI ((h + p) % 4) + 1) &&& 3 = nI ((h + (p + 1)) % 4) := by
      rw [nI_1, ro_and _ (by omega)]
      have e3 : ((h + p) % 4 + 1) % 4 = (h + (p + 1)) % 4 := by omega
      rw [e3]
    exact br_t hle (nm_r e2 (K s (fun q _ => ⟨fun z => absurd z (by omega), fun _ => rfl⟩)))
  | succ d ih =>
    intro i s e K
    have hge : ¬ nI (n - (p + 1)) ≤ nI i := nI_ge (by omega) (by omega)
    have i1 : vp_in (nI ((h + (p + 1 + i)) % 4)) 4 := vp_in_nI (by omega) (by omega)
    have c1 : (nI ((h + (p + 1 + i)) % 4)).toNatClampNeg = (h + (p + 1 + i)) % 4 := nI_clamp (by omega)
    have ea : upd s (nI ((h + (p + 1 + i)) % 4)).toNatClampNeg (vp_nar .byte 0) = upd s ((h + (p + 1 + i)) % 4) 0 := by rw [c1, ro_b0]
    have e2 : (nI ((h + (p + 1 + i)) % 4) + 1) &&& 3 = nI ((h + (p + 1 + (i + 1))) % 4) := by
      rw [nI_1, ro_and _ (by omega)]
      have e3 : ((h + (p + 1 + i)) % 4 + 1) % 4 = (h + (p + 1 + (i + 1))) % 4 := by omega
      rw [e3]
    refine br_f hge ⟨i1, nm_r ea (nm_r e2 (nm_r (nI_1 i) ?_))⟩
    refine ih (i + 1) _ (by omega) (fun s' H => K s' (fun q hq => ?_))
    have F := H q hq
    by_cases c : q = p + 1 + i
    · subst c
      refine ⟨fun _ => ?_, fun z => absurd (show p + 1 + i ≤ p + 1 + i ∧ p + 1 + i < n by omega) z⟩
      rw [F.2 (by omega), ro_us]
    · have ne : (h + q) % 4 ≠ (h + (p + 1 + i)) % 4 := by omega
      rw [ro_un ne] at F
      exact ⟨fun z => F.1 (by omega), fun z => F.2 (by omega)⟩

/-- the relation: h the head's tag, n the count; tail and slots as ro_P says -/
def i_Rel (_ : Nat) (u : SX) (v : SY) : Prop :=
  ∃ (h n : Nat) (s r st w : Nat → Int32), h < 4 ∧ n ≤ 4 ∧ ro_P h n s r st w ∧ u = (nI h, nI ((h + n) % 4), nI n, s, r) ∧ v = (nI h, nI n, st, w)
theorem i_up {k : Nat} {u : SX} {v : SY} (h : i_Rel k u v) : i_Rel (k + 3) u v := h
theorem i_vc0 : wpX_init (fun u => wpY_init (fun v => i_Rel 0 u v)) :=
  ⟨0, 0, _, _, _, _, by omega, by omega, ro_init, rfl, rfl⟩
theorem i_vc_allocate {k : Nat} {u : SX} {v : SY} (I : i_Rel k u v) (hk : k + 3 ≤ 1536) : wpX_allocate (fun r u' => wpY_allocate (fun r' v' => r' = r ∧ i_Rel (k + 3) u' v') v) u := by
  obtain ⟨h, n, s, r, st, w, hh, hn, P, rfl, rfl⟩ := I
  by_cases c : n < 4
  · have hlt : nI n < 4 := nI_lt (b := 4) c (by decide)
    have hne : ¬ nI n = 4 := fun z => absurd ((nI_eq (b := 4) (by omega) (by decide)).mp z) (by omega)
    have i1 : vp_in (nI ((h + n) % 4)) 4 := vp_in_nI (by omega) (by omega)
    have i2 : vp_in (nI n) 4 := vp_in_nI c (by omega)
    have c1 : (nI ((h + n) % 4)).toNatClampNeg = (h + n) % 4 := nI_clamp (by omega)
    have c2 : (nI n).toNatClampNeg = n := nI_clamp (by omega)
    have ea : upd s (nI ((h + n) % 4)).toNatClampNeg (vp_nar .byte 1) = upd s ((h + n) % 4) 1 := by rw [c1, ro_b1]
    have er : upd r (nI ((h + n) % 4)).toNatClampNeg 0 = upd r ((h + n) % 4) 0 := by rw [c1]
    have es : upd st (nI n).toNatClampNeg (vp_nar .byte 1) = upd st n 1 := by rw [c2, ro_b1]
    have et : (nI ((h + n) % 4) + 1) &&& 3 = nI ((h + (n + 1)) % 4) := by
      rw [nI_1, ro_and _ (by omega)]
      have e3 : ((h + n) % 4 + 1) % 4 = (h + (n + 1)) % 4 := by omega
      rw [e3]
    have ex : (nI h + nI n) &&& 3 = nI ((h + n) % 4) := by rw [nI_add]; exact ro_and _ (by omega)
    refine br_t hlt ⟨i1, nm_r ea ⟨i1, nm_r er (nm_r et (nm_r (nI_1 n) ?_))⟩⟩
    refine br_f hne ⟨i2, nm_r es (nm_r (nI_1 n) ⟨ex, ?_⟩)⟩
    exact ⟨h, n + 1, _, _, _, _, hh, by omega, ro_alloc c P, rfl, rfl⟩
  · have e4 : n = 4 := by omega
    subst e4
    exact br_f (show ¬ nI 4 < 4 from nI_nlt (b := 4) (by omega) (by decide)) (br_t (show nI 4 = 4 from rfl) ⟨rfl, h, 4, _, _, _, _, hh, hn, P, rfl, rfl⟩)
theorem i_vc_complete {k : Nat} {u : SX} {v : SY} (I : i_Rel k u v) (hk : k + 3 ≤ 1536) (v1 : Int32) (v2 : Int32) : wpX_complete (fun r u' => wpY_complete (fun r' v' => r' = r ∧ i_Rel (k + 3) u' v') v v1 v2) u v1 v2 := by
  have I0 : i_Rel (k + 3) u v := i_up I
  obtain ⟨h, n, s, r, st, w, hh, hn, P, rfl, rfl⟩ := I
  by_cases h0 : v1 < 0
  · exact br_t h0 (br_t h0 ⟨rfl, I0⟩)
  by_cases h3 : v1 ≤ 3
  · obtain ⟨t, ht, rfl⟩ := nI_of2 (M := 3) (n := 3) (by decide) h0 h3
    obtain ⟨p, hp, rfl, es⟩ := ro_tag (t := t) (h := h) (by omega) hh
    have Q := P p hp
    have i1 : vp_in (nI ((h + p) % 4)) 4 := vp_in_nI (by omega) (by omega)
    have c1 : (nI ((h + p) % 4)).toNatClampNeg = (h + p) % 4 := nI_clamp (by omega)
    have i2 : vp_in (nI p) 4 := vp_in_nI hp (by omega)
    have c2 : (nI p).toNatClampNeg = p := nI_clamp (by omega)
    by_cases c : p < n
    · have hlt : nI p < nI n := nI_lt c (by omega)
      obtain ⟨q1, q2, _⟩ := Q.1 c
      rcases q2 with q2 | q2
      · have z0 : ¬ s (nI ((h + p) % 4)).toNatClampNeg = 0 := by rw [c1, q1, q2]; decide
        have z2 : ¬ s (nI ((h + p) % 4)).toNatClampNeg = 2 := by rw [c1, q1, q2]; decide
        have y1 : st (nI p).toNatClampNeg = 1 := by rw [c2, q2]
        have er : upd r (nI ((h + p) % 4)).toNatClampNeg v2 = upd r ((h + p) % 4) v2 := by rw [c1]
        have ea : upd s (nI ((h + p) % 4)).toNatClampNeg (vp_nar .byte 2) = upd s ((h + p) % 4) 2 := by rw [c1, ro_b2]
        have ew : upd w (nI p).toNatClampNeg v2 = upd w p v2 := by rw [c2]
        have et : upd st (nI p).toNatClampNeg (vp_nar .byte 2) = upd st p 2 := by rw [c2, ro_b2]
        refine br_f h0 (br_t h3 ⟨i1, br_f z0 ⟨i1, br_f z2 ⟨i1, nm_r er ⟨i1, nm_r ea ?_⟩⟩⟩⟩)
        refine br_f h0 (br_t h3 (nm_r es (br_t hlt ⟨i2, br_t y1 ⟨i2, nm_r ew ⟨i2, nm_r et ⟨rfl, ?_⟩⟩⟩⟩)))
        exact ⟨h, n, _, _, _, _, hh, hn, ro_comp v2 hp c P, rfl, rfl⟩
      · have z0 : ¬ s (nI ((h + p) % 4)).toNatClampNeg = 0 := by rw [c1, q1, q2]; decide
        have z2 : s (nI ((h + p) % 4)).toNatClampNeg = 2 := by rw [c1, q1, q2]
        have y1 : ¬ st (nI p).toNatClampNeg = 1 := by rw [c2, q2]; decide
        refine br_f h0 (br_t h3 ⟨i1, br_f z0 ⟨i1, br_t z2 ?_⟩⟩)
        exact br_f h0 (br_t h3 (nm_r es (br_t hlt ⟨i2, br_f y1 ⟨rfl, I0⟩⟩)))
    · have hnl : ¬ nI p < nI n := nI_nlt (by omega) (by omega)
      have z0 : s (nI ((h + p) % 4)).toNatClampNeg = 0 := by rw [c1]; exact Q.2 (by omega)
      refine br_f h0 (br_t h3 ⟨i1, br_t z0 ?_⟩)
      exact br_f h0 (br_t h3 (nm_r es (br_f hnl ⟨rfl, I0⟩)))
  · exact br_f h0 (br_f h3 (br_f h0 (br_f h3 ⟨rfl, I0⟩)))
theorem i_vc_retire {k : Nat} {u : SX} {v : SY} (I : i_Rel k u v) (hk : k + 3 ≤ 1536) : wpX_retire (fun r u' => wpY_retire (fun r' v' => r' = r ∧ i_Rel (k + 3) u' v') v) u := by
  have I0 : i_Rel (k + 3) u v := i_up I
  obtain ⟨h, n, s, r, st, w, hh, hn, P, rfl, rfl⟩ := I
  by_cases c : n = 0
  · have z : nI n = 0 := by rw [c]; rfl
    exact br_t z (br_t z ⟨rfl, I0⟩)
  · have z : ¬ nI n = 0 := nI_ne0 (by omega) (by omega)
    have Q := (P 0 (by omega)).1 (by omega)
    have e0 : (h + 0) % 4 = h := by omega
    rw [e0] at Q
    obtain ⟨q1, q2, q3⟩ := Q
    have i1 : vp_in (nI h) 4 := vp_in_nI hh (by omega)
    have c1 : (nI h).toNatClampNeg = h := nI_clamp (by omega)
    by_cases y : st 0 = 2
    · have x : s (nI h).toNatClampNeg = 2 := by rw [c1, q1, y]
      have er : r (nI h).toNatClampNeg = w 0 := by rw [c1]; exact q3 y
      have ea : upd s (nI h).toNatClampNeg (vp_nar .byte 0) = upd s h 0 := by rw [c1, ro_b0]
      have eh : (nI h + 1) &&& 3 = nI ((h + 1) % 4) := by rw [nI_1]; exact ro_and _ (by omega)
      have en : nI n - 1 = nI (n - 1) := ro_mn n (by omega) 1 (by omega) (by omega)
      refine br_f z ⟨i1, br_t x ⟨i1, nm_r er ⟨i1, nm_r ea (nm_r eh (nm_r en ?_))⟩⟩⟩
      refine br_f z (br_t y (nm_e ⟨n - 1 + 1, ?_⟩))
      refine ro_yl hh hn (n - 1) 0 st w (by omega) (fun j a b => ((P j (by omega)).1 b).2.1) (fun st' w' H _ => ⟨rfl, ?_⟩)
      refine ⟨(h + 1) % 4, n - 1, _, _, _, _, by omega, by omega, ro_ret hh (by omega) hn P (fun j a => H j (by omega) a), ?_, rfl⟩
      have e1 : ((h + 1) % 4 + (n - 1)) % 4 = (h + n) % 4 := by omega
      rw [e1]
    · have x : ¬ s (nI h).toNatClampNeg = 2 := by rw [c1, q1]; exact y
      exact br_f z ⟨i1, br_f x (br_f z (br_f y ⟨rfl, I0⟩))⟩
theorem i_vc_flushAfter {k : Nat} {u : SX} {v : SY} (I : i_Rel k u v) (hk : k + 3 ≤ 1536) (v1 : Int32) : wpX_flushAfter (fun r u' => wpY_flushAfter (fun r' v' => r' = r ∧ i_Rel (k + 3) u' v') v v1) u v1 := by
  have I0 : i_Rel (k + 3) u v := i_up I
  obtain ⟨h, n, s, r, st, w, hh, hn, P, rfl, rfl⟩ := I
  by_cases h0 : v1 < 0
  · exact br_t h0 (br_t h0 ⟨rfl, I0⟩)
  by_cases h3 : v1 ≤ 3
  · obtain ⟨t, ht, rfl⟩ := nI_of2 (M := 3) (n := 3) (by decide) h0 h3
    obtain ⟨p, hp, rfl, es⟩ := ro_tag (t := t) (h := h) (by omega) hh
    have Q := P p hp
    have i1 : vp_in (nI ((h + p) % 4)) 4 := vp_in_nI (by omega) (by omega)
    have c1 : (nI ((h + p) % 4)).toNatClampNeg = (h + p) % 4 := nI_clamp (by omega)
    by_cases c : p < n
    · have hlt : nI p < nI n := nI_lt c (by omega)
      obtain ⟨q1, q2, _⟩ := Q.1 c
      have z0 : ¬ s (nI ((h + p) % 4)).toNatClampNeg = 0 := by
        rw [c1, q1]
        rcases q2 with q2 | q2
        · rw [q2]; decide
        · rw [q2]; decide
      have ek : ((nI ((h + p) % 4) - nI h) &&& 3) + 1 = nI (p + 1) := by rw [es, nI_1]
      have eq : nI n - nI (p + 1) = nI (n - (p + 1)) := ro_mn n (by omega) (p + 1) (by omega) (by omega)
      have ei : (nI ((h + p) % 4) + 1) &&& 3 = nI ((h + (p + 1 + 0)) % 4) := by
        rw [nI_1, ro_and _ (by omega)]
        have e3 : ((h + p) % 4 + 1) % 4 = (h + (p + 1 + 0)) % 4 := by omega
        rw [e3]
      have ey : (nI n - 1) - nI p = nI (n - (p + 1)) := by
        have e1 : nI n - 1 = nI (n - 1) := ro_mn n (by omega) 1 (by omega) (by omega)
        have e2 : n - 1 - p = n - (p + 1) := by omega
        rw [e1, ro_mn (n - 1) (by omega) p (by omega) (by omega), e2]
      refine br_f h0 (br_t h3 ⟨i1, br_f z0 (nm_r ek (nm_r eq (nm_r ei ⟨n - (p + 1) + 1, ?_⟩)))⟩)
      refine ro_xl hn c (n - (p + 1)) 0 s (by omega) (fun s' H => ?_)
      refine br_f h0 (br_t h3 (nm_r es (br_t hlt (nm_r ey (nm_r (nI_1 p) ⟨rfl, ?_⟩)))))
      exact ⟨h, p + 1, _, _, _, _, hh, by omega, ro_fl c hn P H, rfl, rfl⟩
    · have hnl : ¬ nI p < nI n := nI_nlt (by omega) (by omega)
      have z0 : s (nI ((h + p) % 4)).toNatClampNeg = 0 := by rw [c1]; exact Q.2 (by omega)
      refine br_f h0 (br_t h3 ⟨i1, br_t z0 ?_⟩)
      exact br_f h0 (br_t h3 (nm_r es (br_f hnl ⟨rfl, I0⟩)))
  · exact br_f h0 (br_f h3 (br_f h0 (br_f h3 ⟨rfl, I0⟩)))
theorem i_vc_count {k : Nat} {u : SX} {v : SY} (I : i_Rel k u v) (hk : k + 3 ≤ 1536) : wpX_count (fun r => wpY_count (fun r' => r' = r ∧ i_Rel (k + 3) u v) v) u := by
  have I0 : i_Rel (k + 3) u v := i_up I
  obtain ⟨h, n, s, r, st, w, hh, hn, P, rfl, rfl⟩ := I
  exact ⟨rfl, I0⟩
end
